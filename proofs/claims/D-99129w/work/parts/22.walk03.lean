set_option maxRecDepth 100000
theorem t_X1_done_J62 {p : Program} {l : Launch} {e : Env} {s : State} {m : MethodId} {args : Array Value} {below : List Frame} {meth : Method} {c : Code} {g : GT} {h0 : AH} {v0 : Option Nat} {K : Int32 → AH → Prop} {E : Nat → AH → Prop} {h : AH} {H : Heap} {locs : List Loc} {cells slots : Nat} {ls : Array Slot} (X : Cx g h0 p s m args meth c RX1 cX1_done 3 (Option.some Jvm.ClassFile.FieldType.boolean))  (hw : w_X1_done_J62 g v0 K E h) (hR : HS g s h H locs) (hl : lv_has ls 3 [(0, va_rf v0)]) : W p l e (RM 2 h0) s m args below meth c H locs cells slots (MQT below g (qI K) E args s h0) (F0 m 62 ls []) := by
  have hx := X.hx
  have hb := X.hb
  unfold w_X1_done_J62 at hw
  refine r_aload_n X dX1_done_62 rfl (lv_at hl 0 rfl) ?_
  refine r_gR X hR fk_X1_67 dX1_done_63 hw (fun x3 hw => ?_)
  refine r_aload_n X dX1_done_66 rfl (lv_at hl 0 rfl) ?_
  refine r_gI X hR fk_X1_120 dX1_done_67 hw (fun x4 hw => ?_)
  refine r_aald X hR (t := 4) (by decide) (by decide) dX1_done_70 hw (fun x5 hw => ?_)
  refine r_aload_n X dX1_done_71 rfl (lv_at hl 0 rfl) ?_
  refine r_gR X hR fk_X1_37 dX1_done_72 hw (fun x6 hw => ?_)
  refine r_callV X hR (c_V (ci := 4) (q := (RX4, TX4, 4)) X hR hl.1 (c_X4_become l g x5 x6) (lw_V q1287 q1288 q1289 q121 q1290) rfl rfl mh_X4_become rfl (by decide) (by decide) rfl (cat4 (Nat.le_of_ble_eq_true rfl)) dX1_done_75 hw) (fun _ h H locs cells slots hR hw => ?_)
  refine r_aload_n X dX1_done_78 rfl (lv_at hl 0 rfl) ?_
  refine lv_dup hx hb dX1_done_79 (cat_rf _) ?_
  refine r_gI X hR fk_X1_120 dX1_done_80 hw (fun x7 hw => ?_)
  refine lv_iconst (v := 1) hx hb dX1_done_83 (by decide) ?_
  refine lv_iadd hx hb dX1_done_84 ?_
  refine r_put X hR fp_X1_120 (Or.inl fn_X1_120) (nf_int _) dX1_done_85 hw (fun H locs h hR hw => ?_)
  refine lv_iconst (v := 1) hx hb dX1_done_88 (by decide) ?_
  exact r_zret X hR dX1_done_89 hw
theorem t_X1_done_L18 {p : Program} {l : Launch} {e : Env} {s : State} {m : MethodId} {args : Array Value} {below : List Frame} {meth : Method} {c : Code} {g : GT} {h0 : AH} {v0 : Option Nat} {v1 : Option Nat} {K : Int32 → AH → Prop} {E : Nat → AH → Prop} (X : Cx g h0 p s m args meth c RX1 cX1_done 3 (Option.some Jvm.ClassFile.FieldType.boolean))  : ∀ (n : Nat) {v2 : Int32} {h : AH} {H : Heap} {locs : List Loc} {cells slots : Nat} {ls : Array Slot}, LpN1 (w_X1_done_L18 g v0 v1 K E) n v2 h → HS g s h H locs → lv_has ls 3 [(0, va_rf v0), (1, va_rf v1), (2, .int v2)] → W p l e (RM 2 h0) s m args below meth c H locs cells slots (MQT below g (qI K) E args s h0) (F0 m 18 ls []) := by
  have hx := X.hx
  have hb := X.hb
  intro n
  induction n with
  | zero =>
    intro v2 h H locs cells slots ls hw
    exact hw.elim
  | succ n k18 =>
    intro v2 h H locs cells slots ls hw hR hl
    have hw : w_X1_done_L18 g v0 v1 K E (LpN1 (w_X1_done_L18 g v0 v1 K E) n) v2 h := hw
    unfold w_X1_done_L18 at hw
    refine lv_iload_n hx hb dX1_done_18 rfl (lv_at hl 2 rfl) ?_
    refine lv_bipush (v := 16) hx hb dX1_done_19 (by decide) ?_
    refine lv_icmp_ge (tgt := 44) hx hb dX1_done_21 (by decide) (fun c10 => ?_) (fun c10 => ?_)
    · have hw := hw.1 c10
      refine r_aload_n X dX1_done_44 rfl (lv_at hl 0 rfl) ?_
      refine r_gR X hR fk_X1_67 dX1_done_45 hw (fun x11 hw => ?_)
      refine lv_bipush (v := 15) hx hb dX1_done_48 (by decide) ?_
      refine r_aload_n X dX1_done_50 rfl (lv_at hl 1 rfl) ?_
      refine r_aast X hR (t := 4) (by decide) (by decide) rfl ak_4 dX1_done_51 hw (fun H locs h hR hw => ?_)
      refine r_aload_n X dX1_done_52 rfl (lv_at hl 0 rfl) ?_
      refine lv_dup hx hb dX1_done_53 (cat_rf _) ?_
      refine r_gI X hR fk_X1_120 dX1_done_54 hw (fun x12 hw => ?_)
      refine lv_iconst (v := 1) hx hb dX1_done_57 (by decide) ?_
      refine lv_isub hx hb dX1_done_58 ?_
      refine r_put X hR fp_X1_120 (Or.inl fn_X1_120) (nf_int _) dX1_done_59 hw (fun H locs h hR hw => ?_)
      exact t_X1_done_J62 X  hw hR (lv_sub hl [0] rfl)
    · have hw := hw.2 c10
      refine r_aload_n X dX1_done_24 rfl (lv_at hl 0 rfl) ?_
      refine r_gR X hR fk_X1_67 dX1_done_25 hw (fun x13 hw => ?_)
      refine lv_iload_n hx hb dX1_done_28 rfl (lv_at hl 2 rfl) ?_
      refine lv_iconst (v := 1) hx hb dX1_done_29 (by decide) ?_
      refine lv_isub hx hb dX1_done_30 ?_
      refine r_aload_n X dX1_done_31 rfl (lv_at hl 0 rfl) ?_
      refine r_gR X hR fk_X1_67 dX1_done_32 hw (fun x14 hw => ?_)
      refine lv_iload_n hx hb dX1_done_35 rfl (lv_at hl 2 rfl) ?_
      refine r_aald X hR (t := 4) (by decide) (by decide) dX1_done_36 hw (fun x15 hw => ?_)
      refine r_aast X hR (t := 4) (by decide) (by decide) rfl ak_4 dX1_done_37 hw (fun H locs h hR hw => ?_)
      refine r_iinc X (k := 2) (v := (v2 + 1)) (lv' := fun x16 => [(2, .int x16), (0, va_rf v0), (1, va_rf v1)]) dX1_done_38 hl rfl rfl (by decide) hw (fun _ => by simp [cat_rf, cat_int, cat_long]) (fun x16 hw ls hl => ?_)
      refine lv_goto (tgt := 18) hx hb dX1_done_41 (by decide) ?_
      exact k18 hw hR (lv_sub hl [1, 2, 0] rfl)
theorem c_X1_done (l : Launch) (g : GT) (v0 : Option Nat) : CT qI l yX1_done (ws_ yX1_done cX1_done 3 (Option.some Jvm.ClassFile.FieldType.boolean)) 2 g [va_rf v0] (fun K E h => w_X1_done g v0 K E h) := by
  refine CT_of (lv := [(0, va_rf v0)]) (by decide +kernel) (by simp [lg_sl, cat_rf, cat_int, cat_long]) (by simp [lv_args, cat_rf, cat_int, cat_long]) (fun h0 K E p e s m args below meth c H locs cells slots ls X hxt hmn hw hR hl => ?_)
  have hx := X.hx
  have hb := X.hb
  unfold w_X1_done at hw
  refine r_aload_n X dX1_done_0 rfl (lv_at hl 0 rfl) ?_
  refine r_gI X hR fk_X1_120 dX1_done_1 hw (fun x1 hw => ?_)
  refine lv_bipush (v := 16) hx hb dX1_done_4 (by decide) ?_
  refine lv_icmp_ne (tgt := 62) hx hb dX1_done_6 (by decide) (fun c2 => ?_) (fun c2 => ?_)
  · have hw := hw.1 c2
    exact t_X1_done_J62 X  hw hR (lv_sub hl [0] rfl)
  · have hw := hw.2 c2
    refine r_aload_n X dX1_done_9 rfl (lv_at hl 0 rfl) ?_
    refine r_gR X hR fk_X1_67 dX1_done_10 hw (fun x8 hw => ?_)
    refine lv_iconst (v := 0) hx hb dX1_done_13 (by decide) ?_
    refine r_aald X hR (t := 4) (by decide) (by decide) dX1_done_14 hw (fun x9 hw => ?_)
    refine r_astore_n (i := 1) (lv' := [(1, va_rf x9), (0, va_rf v0)]) X dX1_done_15 rfl hl (by decide) (by simp [cat_rf, cat_int, cat_long]) (fun ls hl => ?_)
    refine lv_iconst (v := 1) hx hb dX1_done_16 (by decide) ?_
    refine lv_istore_n (i := 2) (lv' := [(2, .int 1), (1, va_rf x9), (0, va_rf v0)]) hx hb dX1_done_17 rfl hl (by decide) (by simp [cat_rf, cat_int, cat_long]) (fun ls hl => ?_)
    obtain ⟨n, hw⟩ := hw
    exact t_X1_done_L18 X  n hw hR (lv_sub hl [2, 1, 0] rfl)
theorem t_X1_lend_J39 {p : Program} {l : Launch} {e : Env} {s : State} {m : MethodId} {args : Array Value} {below : List Frame} {meth : Method} {c : Code} {g : GT} {h0 : AH} {v0 : Option Nat} {v1 : Int32} {v2 : Int32} {s0 : Int32} {s1 : Option Nat} {K : Int32 → AH → Prop} {E : Nat → AH → Prop} {h : AH} {H : Heap} {locs : List Loc} {cells slots : Nat} {ls : Array Slot} (X : Cx g h0 p s m args meth c RX1 cX1_lend 3 (Option.some Jvm.ClassFile.FieldType.boolean))  (hw : w_X1_lend_J39 g v0 v1 v2 s0 s1 K E h) (hR : HS g s h H locs) (hl : lv_has ls 3 [(0, va_rf v0), (1, .int v1), (2, .int v2)]) : W p l e (RM 3 h0) s m args below meth c H locs cells slots (MQT below g (qI K) E args s h0) (F0 m 39 ls [.int s0, va_rf s1]) := by
  have hx := X.hx
  have hb := X.hb
  unfold w_X1_lend_J39 at hw
  refine r_callI X hR (c_V (ci := 1) (q := (RX1, TX1, 21)) X hR hl.1 (c_X1_yes l g s1 s0) (lw_V q1468 q1470 qs47 q115 q1471) rfl rfl mh_X1_yes rfl (by decide) (by decide) rfl (cat4 (Nat.le_of_ble_eq_true rfl)) dX1_lend_39 hw) (fun x3 h H locs cells slots hR hw => ?_)
  refine lv_if_ne (tgt := 47) hx hb dX1_lend_42 (by decide) (fun c4 => ?_) (fun c4 => ?_)
  · have hw := hw.1 c4
    refine r_aload_n X dX1_lend_47 rfl (lv_at hl 0 rfl) ?_
    refine r_callV X hR (c_V (ci := 1) (q := (RX1, TX1, 21)) X hR hl.1 (c_X1_note l g v0) (lw_V q1472 q1474 qs48 q115 q1475) rfl rfl mh_X1_note rfl (by decide) (by decide) rfl (cat4 (Nat.le_of_ble_eq_true rfl)) dX1_lend_48 hw) (fun _ h H locs cells slots hR hw => ?_)
    refine r_aload_n X dX1_lend_51 rfl (lv_at hl 0 rfl) ?_
    refine r_gR X hR fk_X1_33 dX1_lend_52 hw (fun x5 hw => ?_)
    refine r_gR X hR fk_X1_154 dX1_lend_55 hw (fun x6 hw => ?_)
    refine lv_iload_n hx hb dX1_lend_58 rfl (lv_at hl 1 rfl) ?_
    refine lv_iload_n hx hb dX1_lend_59 rfl (lv_at hl 2 rfl) ?_
    refine r_iast X hR dX1_lend_60 hw (fun H locs h hR hw => ?_)
    refine r_aload_n X dX1_lend_61 rfl (lv_at hl 0 rfl) ?_
    refine r_callI X hR (c_V (ci := 1) (q := (RX1, TX1, 21)) X hR hl.1 (c_X1_done l g v0) (lw_V q1476 q1478 qs49 q115 q1479) rfl rfl mh_X1_done rfl (by decide) (by decide) rfl (cat4 (Nat.le_of_ble_eq_true rfl)) dX1_lend_62 hw) (fun x7 h H locs cells slots hR hw => ?_)
    exact r_zret X hR dX1_lend_65 hw
  · have hw := hw.2 c4
    refine lv_iconst (v := 0) hx hb dX1_lend_45 (by decide) ?_
    exact r_zret X hR dX1_lend_46 hw
theorem t_X1_lend_J17 {p : Program} {l : Launch} {e : Env} {s : State} {m : MethodId} {args : Array Value} {below : List Frame} {meth : Method} {c : Code} {g : GT} {h0 : AH} {v0 : Option Nat} {v1 : Int32} {v2 : Int32} {s0 : Option Nat} {K : Int32 → AH → Prop} {E : Nat → AH → Prop} {h : AH} {H : Heap} {locs : List Loc} {cells slots : Nat} {ls : Array Slot} (X : Cx g h0 p s m args meth c RX1 cX1_lend 3 (Option.some Jvm.ClassFile.FieldType.boolean))  (hw : w_X1_lend_J17 g v0 v1 v2 s0 K E h) (hR : HS g s h H locs) (hl : lv_has ls 3 [(0, va_rf v0), (1, .int v1), (2, .int v2)]) : W p l e (RM 3 h0) s m args below meth c H locs cells slots (MQT below g (qI K) E args s h0) (F0 m 17 ls [va_rf s0]) := by
  have hx := X.hx
  have hb := X.hb
  unfold w_X1_lend_J17 at hw
  refine lv_iconst (v := 1) hx hb dX1_lend_17 (by decide) ?_
  refine lv_goto (tgt := 39) hx hb dX1_lend_18 (by decide) ?_
  exact t_X1_lend_J39 X  hw hR (lv_sub hl [0, 1, 2] rfl)
theorem c_X1_lend (l : Launch) (g : GT) (v0 : Option Nat) (v1 : Int32) (v2 : Int32) : CT qI l yX1_lend (ws_ yX1_lend cX1_lend 3 (Option.some Jvm.ClassFile.FieldType.boolean)) 3 g [va_rf v0, .int v1, .int v2] (fun K E h => w_X1_lend g v0 v1 v2 K E h) := by
  refine CT_of (lv := [(0, va_rf v0), (1, .int v1), (2, .int v2)]) (by decide +kernel) (by simp [lg_sl, cat_rf, cat_int, cat_long]) (by simp [lv_args, cat_rf, cat_int, cat_long]) (fun h0 K E p e s m args below meth c H locs cells slots ls X hxt hmn hw hR hl => ?_)
  have hx := X.hx
  have hb := X.hb
  unfold w_X1_lend at hw
  refine r_aload_n X dX1_lend_0 rfl (lv_at hl 0 rfl) ?_
  refine r_aload_n X dX1_lend_1 rfl (lv_at hl 0 rfl) ?_
  refine lv_iload_n hx hb dX1_lend_2 rfl (lv_at hl 1 rfl) ?_
  refine r_callI X hR (c_V (ci := 1) (q := (RX1, TX1, 21)) X hR hl.1 (c_X1_isUmbrella l g v0 v1) (lw_V q1142 q1144 qs32 q115 q1145) rfl rfl mh_X1_isUmbrella rfl (by decide) (by decide) rfl (cat4 (Nat.le_of_ble_eq_true rfl)) dX1_lend_3 hw) (fun x1 h H locs cells slots hR hw => ?_)
  refine lv_if_eq (tgt := 17) hx hb dX1_lend_6 (by decide) (fun c2 => ?_) (fun c2 => ?_)
  · have hw := hw.1 c2
    exact t_X1_lend_J17 X  hw hR (lv_sub hl [0, 1, 2] rfl)
  · have hw := hw.2 c2
    refine r_aload_n X dX1_lend_9 rfl (lv_at hl 0 rfl) ?_
    refine lv_iload_n hx hb dX1_lend_10 rfl (lv_at hl 2 rfl) ?_
    refine r_callI X hR (c_V (ci := 1) (q := (RX1, TX1, 21)) X hR hl.1 (c_X1_isPerson l g v0 v2) (lw_V q1165 q1167 qs33 q115 q1168) rfl rfl mh_X1_isPerson rfl (by decide) (by decide) rfl (cat4 (Nat.le_of_ble_eq_true rfl)) dX1_lend_11 hw) (fun x8 h H locs cells slots hR hw => ?_)
    refine lv_if_ne (tgt := 21) hx hb dX1_lend_14 (by decide) (fun c9 => ?_) (fun c9 => ?_)
    · have hw := hw.1 c9
      refine r_aload_n X dX1_lend_21 rfl (lv_at hl 0 rfl) ?_
      refine r_gR X hR fk_X1_33 dX1_lend_22 hw (fun x10 hw => ?_)
      refine r_gR X hR fk_X1_154 dX1_lend_25 hw (fun x11 hw => ?_)
      refine lv_iload_n hx hb dX1_lend_28 rfl (lv_at hl 1 rfl) ?_
      refine r_iald X hR dX1_lend_29 hw (fun x12 hw => ?_)
      refine lv_iload_n hx hb dX1_lend_30 rfl (lv_at hl 2 rfl) ?_
      refine lv_icmp_ne (tgt := 38) hx hb dX1_lend_31 (by decide) (fun c13 => ?_) (fun c13 => ?_)
      · have hw := hw.1 c13
        refine lv_iconst (v := 0) hx hb dX1_lend_38 (by decide) ?_
        exact t_X1_lend_J39 X  hw hR (lv_sub hl [0, 1, 2] rfl)
      · have hw := hw.2 c13
        refine lv_iconst (v := 5) hx hb dX1_lend_34 (by decide) ?_
        refine lv_goto (tgt := 39) hx hb dX1_lend_35 (by decide) ?_
        exact t_X1_lend_J39 X  hw hR (lv_sub hl [0, 1, 2] rfl)
    · have hw := hw.2 c9
      exact t_X1_lend_J17 X  hw hR (lv_sub hl [0, 1, 2] rfl)
theorem t_X1_leave_J32 {p : Program} {l : Launch} {e : Env} {s : State} {m : MethodId} {args : Array Value} {below : List Frame} {meth : Method} {c : Code} {g : GT} {h0 : AH} {v0 : Option Nat} {v1 : Int32} {s0 : Int32} {s1 : Option Nat} {K : Int32 → AH → Prop} {E : Nat → AH → Prop} {h : AH} {H : Heap} {locs : List Loc} {cells slots : Nat} {ls : Array Slot} (X : Cx g h0 p s m args meth c RX1 cX1_leave 2 (Option.some Jvm.ClassFile.FieldType.boolean))  (hw : w_X1_leave_J32 g v0 v1 s0 s1 K E h) (hR : HS g s h H locs) (hl : lv_has ls 2 [(0, va_rf v0), (1, .int v1)]) : W p l e (RM 3 h0) s m args below meth c H locs cells slots (MQT below g (qI K) E args s h0) (F0 m 32 ls [.int s0, va_rf s1]) := by
  have hx := X.hx
  have hb := X.hb
  unfold w_X1_leave_J32 at hw
  refine r_callI X hR (c_V (ci := 1) (q := (RX1, TX1, 21)) X hR hl.1 (c_X1_yes l g s1 s0) (lw_V q1468 q1470 qs47 q115 q1471) rfl rfl mh_X1_yes rfl (by decide) (by decide) rfl (cat4 (Nat.le_of_ble_eq_true rfl)) dX1_leave_32 hw) (fun x7 h H locs cells slots hR hw => ?_)
  refine lv_if_ne (tgt := 40) hx hb dX1_leave_35 (by decide) (fun c8 => ?_) (fun c8 => ?_)
  · have hw := hw.1 c8
    refine r_aload_n X dX1_leave_40 rfl (lv_at hl 0 rfl) ?_
    refine r_callV X hR (c_V (ci := 1) (q := (RX1, TX1, 21)) X hR hl.1 (c_X1_note l g v0) (lw_V q1472 q1474 qs48 q115 q1475) rfl rfl mh_X1_note rfl (by decide) (by decide) rfl (cat4 (Nat.le_of_ble_eq_true rfl)) dX1_leave_41 hw) (fun _ h H locs cells slots hR hw => ?_)
    refine r_aload_n X dX1_leave_44 rfl (lv_at hl 0 rfl) ?_
    refine r_gR X hR fk_X1_33 dX1_leave_45 hw (fun x9 hw => ?_)
    refine r_gR X hR fk_X1_154 dX1_leave_48 hw (fun x10 hw => ?_)
    refine lv_iload_n hx hb dX1_leave_51 rfl (lv_at hl 1 rfl) ?_
    refine lv_bipush (v := (-2)) hx hb dX1_leave_52 (by decide) ?_
    refine r_iast X hR dX1_leave_54 hw (fun H locs h hR hw => ?_)
    refine r_aload_n X dX1_leave_55 rfl (lv_at hl 0 rfl) ?_
    refine r_callI X hR (c_V (ci := 1) (q := (RX1, TX1, 21)) X hR hl.1 (c_X1_done l g v0) (lw_V q1476 q1478 qs49 q115 q1479) rfl rfl mh_X1_done rfl (by decide) (by decide) rfl (cat4 (Nat.le_of_ble_eq_true rfl)) dX1_leave_56 hw) (fun x11 h H locs cells slots hR hw => ?_)
    exact r_zret X hR dX1_leave_59 hw
  · have hw := hw.2 c8
    refine lv_iconst (v := 0) hx hb dX1_leave_38 (by decide) ?_
    exact r_zret X hR dX1_leave_39 hw
theorem c_X1_leave (l : Launch) (g : GT) (v0 : Option Nat) (v1 : Int32) : CT qI l yX1_leave (ws_ yX1_leave cX1_leave 2 (Option.some Jvm.ClassFile.FieldType.boolean)) 3 g [va_rf v0, .int v1] (fun K E h => w_X1_leave g v0 v1 K E h) := by
  refine CT_of (lv := [(0, va_rf v0), (1, .int v1)]) (by decide +kernel) (by simp [lg_sl, cat_rf, cat_int, cat_long]) (by simp [lv_args, cat_rf, cat_int, cat_long]) (fun h0 K E p e s m args below meth c H locs cells slots ls X hxt hmn hw hR hl => ?_)
  have hx := X.hx
  have hb := X.hb
  unfold w_X1_leave at hw
  refine r_aload_n X dX1_leave_0 rfl (lv_at hl 0 rfl) ?_
  refine r_aload_n X dX1_leave_1 rfl (lv_at hl 0 rfl) ?_
  refine lv_iload_n hx hb dX1_leave_2 rfl (lv_at hl 1 rfl) ?_
  refine r_callI X hR (c_V (ci := 1) (q := (RX1, TX1, 21)) X hR hl.1 (c_X1_isUmbrella l g v0 v1) (lw_V q1142 q1144 qs32 q115 q1145) rfl rfl mh_X1_isUmbrella rfl (by decide) (by decide) rfl (cat4 (Nat.le_of_ble_eq_true rfl)) dX1_leave_3 hw) (fun x1 h H locs cells slots hR hw => ?_)
  refine lv_if_ne (tgt := 13) hx hb dX1_leave_6 (by decide) (fun c2 => ?_) (fun c2 => ?_)
  · have hw := hw.1 c2
    refine r_aload_n X dX1_leave_13 rfl (lv_at hl 0 rfl) ?_
    refine r_gR X hR fk_X1_33 dX1_leave_14 hw (fun x3 hw => ?_)
    refine r_gR X hR fk_X1_154 dX1_leave_17 hw (fun x4 hw => ?_)
    refine lv_iload_n hx hb dX1_leave_20 rfl (lv_at hl 1 rfl) ?_
    refine r_iald X hR dX1_leave_21 hw (fun x5 hw => ?_)
    refine lv_bipush (v := (-2)) hx hb dX1_leave_22 (by decide) ?_
    refine lv_icmp_ne (tgt := 31) hx hb dX1_leave_24 (by decide) (fun c6 => ?_) (fun c6 => ?_)
    · have hw := hw.1 c6
      refine lv_iconst (v := 0) hx hb dX1_leave_31 (by decide) ?_
      exact t_X1_leave_J32 X  hw hR (lv_sub hl [0, 1] rfl)
    · have hw := hw.2 c6
      refine lv_iconst (v := 5) hx hb dX1_leave_27 (by decide) ?_
      refine lv_goto (tgt := 32) hx hb dX1_leave_28 (by decide) ?_
      exact t_X1_leave_J32 X  hw hR (lv_sub hl [0, 1] rfl)
  · have hw := hw.2 c2
    refine lv_iconst (v := 1) hx hb dX1_leave_9 (by decide) ?_
    refine lv_goto (tgt := 32) hx hb dX1_leave_10 (by decide) ?_
    exact t_X1_leave_J32 X  hw hR (lv_sub hl [0, 1] rfl)
theorem t_X1_exchange_J52 {p : Program} {l : Launch} {e : Env} {s : State} {m : MethodId} {args : Array Value} {below : List Frame} {meth : Method} {c : Code} {g : GT} {h0 : AH} {v0 : Option Nat} {v1 : Int32} {v2 : Int32} {s0 : Int32} {s1 : Option Nat} {K : Int32 → AH → Prop} {E : Nat → AH → Prop} {h : AH} {H : Heap} {locs : List Loc} {cells slots : Nat} {ls : Array Slot} (X : Cx g h0 p s m args meth c RX1 cX1_exchange 3 (Option.some Jvm.ClassFile.FieldType.boolean))  (hw : w_X1_exchange_J52 g v0 v1 v2 s0 s1 K E h) (hR : HS g s h H locs) (hl : lv_has ls 3 [(0, va_rf v0), (1, .int v1), (2, .int v2)]) : W p l e (RM 3 h0) s m args below meth c H locs cells slots (MQT below g (qI K) E args s h0) (F0 m 52 ls [.int s0, va_rf s1]) := by
  have hx := X.hx
  have hb := X.hb
  unfold w_X1_exchange_J52 at hw
  refine r_callI X hR (c_V (ci := 1) (q := (RX1, TX1, 21)) X hR hl.1 (c_X1_yes l g s1 s0) (lw_V q1468 q1470 qs47 q115 q1471) rfl rfl mh_X1_yes rfl (by decide) (by decide) rfl (cat4 (Nat.le_of_ble_eq_true rfl)) dX1_exchange_52 hw) (fun x3 h H locs cells slots hR hw => ?_)
  refine lv_if_ne (tgt := 60) hx hb dX1_exchange_55 (by decide) (fun c4 => ?_) (fun c4 => ?_)
  · have hw := hw.1 c4
    refine r_aload_n X dX1_exchange_60 rfl (lv_at hl 0 rfl) ?_
    refine r_callV X hR (c_V (ci := 1) (q := (RX1, TX1, 21)) X hR hl.1 (c_X1_note l g v0) (lw_V q1472 q1474 qs48 q115 q1475) rfl rfl mh_X1_note rfl (by decide) (by decide) rfl (cat4 (Nat.le_of_ble_eq_true rfl)) dX1_exchange_61 hw) (fun _ h H locs cells slots hR hw => ?_)
    refine r_aload_n X dX1_exchange_64 rfl (lv_at hl 0 rfl) ?_
    refine r_gR X hR fk_X1_33 dX1_exchange_65 hw (fun x5 hw => ?_)
    refine lv_iload_n hx hb dX1_exchange_68 rfl (lv_at hl 1 rfl) ?_
    refine lv_iload_n hx hb dX1_exchange_69 rfl (lv_at hl 2 rfl) ?_
    refine r_callV X hR (c_V (ci := 4) (q := (RX4, TX4, 4)) X hR hl.1 (c_X4_change l g x5 v1 v2) (lw_V q1488 q1045 q1046 q121 q1047) rfl rfl mh_X4_change rfl (by decide) (by decide) rfl (cat4 (Nat.le_of_ble_eq_true rfl)) dX1_exchange_70 hw) (fun _ h H locs cells slots hR hw => ?_)
    refine r_aload_n X dX1_exchange_73 rfl (lv_at hl 0 rfl) ?_
    refine r_callI X hR (c_V (ci := 1) (q := (RX1, TX1, 21)) X hR hl.1 (c_X1_done l g v0) (lw_V q1476 q1478 qs49 q115 q1479) rfl rfl mh_X1_done rfl (by decide) (by decide) rfl (cat4 (Nat.le_of_ble_eq_true rfl)) dX1_exchange_74 hw) (fun x6 h H locs cells slots hR hw => ?_)
    exact r_zret X hR dX1_exchange_77 hw
  · have hw := hw.2 c4
    refine lv_iconst (v := 0) hx hb dX1_exchange_58 (by decide) ?_
    exact r_zret X hR dX1_exchange_59 hw
theorem t_X1_exchange_J22 {p : Program} {l : Launch} {e : Env} {s : State} {m : MethodId} {args : Array Value} {below : List Frame} {meth : Method} {c : Code} {g : GT} {h0 : AH} {v0 : Option Nat} {v1 : Int32} {v2 : Int32} {s0 : Option Nat} {K : Int32 → AH → Prop} {E : Nat → AH → Prop} {h : AH} {H : Heap} {locs : List Loc} {cells slots : Nat} {ls : Array Slot} (X : Cx g h0 p s m args meth c RX1 cX1_exchange 3 (Option.some Jvm.ClassFile.FieldType.boolean))  (hw : w_X1_exchange_J22 g v0 v1 v2 s0 K E h) (hR : HS g s h H locs) (hl : lv_has ls 3 [(0, va_rf v0), (1, .int v1), (2, .int v2)]) : W p l e (RM 3 h0) s m args below meth c H locs cells slots (MQT below g (qI K) E args s h0) (F0 m 22 ls [va_rf s0]) := by
  have hx := X.hx
  have hb := X.hb
  unfold w_X1_exchange_J22 at hw
  refine lv_iconst (v := 1) hx hb dX1_exchange_22 (by decide) ?_
  refine lv_goto (tgt := 52) hx hb dX1_exchange_23 (by decide) ?_
  exact t_X1_exchange_J52 X  hw hR (lv_sub hl [0, 1, 2] rfl)
theorem c_X1_exchange (l : Launch) (g : GT) (v0 : Option Nat) (v1 : Int32) (v2 : Int32) : CT qI l yX1_exchange (ws_ yX1_exchange cX1_exchange 3 (Option.some Jvm.ClassFile.FieldType.boolean)) 3 g [va_rf v0, .int v1, .int v2] (fun K E h => w_X1_exchange g v0 v1 v2 K E h) := by
  refine CT_of (lv := [(0, va_rf v0), (1, .int v1), (2, .int v2)]) (by decide +kernel) (by simp [lg_sl, cat_rf, cat_int, cat_long]) (by simp [lv_args, cat_rf, cat_int, cat_long]) (fun h0 K E p e s m args below meth c H locs cells slots ls X hxt hmn hw hR hl => ?_)
  have hx := X.hx
  have hb := X.hb
  unfold w_X1_exchange at hw
  refine r_aload_n X dX1_exchange_0 rfl (lv_at hl 0 rfl) ?_
  refine r_aload_n X dX1_exchange_1 rfl (lv_at hl 0 rfl) ?_
  refine lv_iload_n hx hb dX1_exchange_2 rfl (lv_at hl 1 rfl) ?_
  refine r_callI X hR (c_V (ci := 1) (q := (RX1, TX1, 21)) X hR hl.1 (c_X1_isUmbrella l g v0 v1) (lw_V q1142 q1144 qs32 q115 q1145) rfl rfl mh_X1_isUmbrella rfl (by decide) (by decide) rfl (cat4 (Nat.le_of_ble_eq_true rfl)) dX1_exchange_3 hw) (fun x1 h H locs cells slots hR hw => ?_)
  refine lv_if_eq (tgt := 22) hx hb dX1_exchange_6 (by decide) (fun c2 => ?_) (fun c2 => ?_)
  · have hw := hw.1 c2
    exact t_X1_exchange_J22 X  hw hR (lv_sub hl [0, 1, 2] rfl)
  · have hw := hw.2 c2
    refine r_aload_n X dX1_exchange_9 rfl (lv_at hl 0 rfl) ?_
    refine lv_iload_n hx hb dX1_exchange_10 rfl (lv_at hl 2 rfl) ?_
    refine r_callI X hR (c_V (ci := 1) (q := (RX1, TX1, 21)) X hR hl.1 (c_X1_isUmbrella l g v0 v2) (lw_V q1142 q1144 qs32 q115 q1145) rfl rfl mh_X1_isUmbrella rfl (by decide) (by decide) rfl (cat4 (Nat.le_of_ble_eq_true rfl)) dX1_exchange_11 hw) (fun x7 h H locs cells slots hR hw => ?_)
    refine lv_if_eq (tgt := 22) hx hb dX1_exchange_14 (by decide) (fun c8 => ?_) (fun c8 => ?_)
    · have hw := hw.1 c8
      exact t_X1_exchange_J22 X  hw hR (lv_sub hl [0, 1, 2] rfl)
    · have hw := hw.2 c8
      refine lv_iload_n hx hb dX1_exchange_17 rfl (lv_at hl 1 rfl) ?_
      refine lv_iload_n hx hb dX1_exchange_18 rfl (lv_at hl 2 rfl) ?_
      refine lv_icmp_ne (tgt := 26) hx hb dX1_exchange_19 (by decide) (fun c9 => ?_) (fun c9 => ?_)
      · have hw := hw.1 c9
        refine r_aload_n X dX1_exchange_26 rfl (lv_at hl 0 rfl) ?_
        refine r_gR X hR fk_X1_33 dX1_exchange_27 hw (fun x10 hw => ?_)
        refine r_gR X hR fk_X1_154 dX1_exchange_30 hw (fun x11 hw => ?_)
        refine lv_iload_n hx hb dX1_exchange_33 rfl (lv_at hl 1 rfl) ?_
        refine r_iald X hR dX1_exchange_34 hw (fun x12 hw => ?_)
        refine r_aload_n X dX1_exchange_35 rfl (lv_at hl 0 rfl) ?_
        refine r_gR X hR fk_X1_33 dX1_exchange_36 hw (fun x13 hw => ?_)
        refine r_gR X hR fk_X1_154 dX1_exchange_39 hw (fun x14 hw => ?_)
        refine lv_iload_n hx hb dX1_exchange_42 rfl (lv_at hl 2 rfl) ?_
        refine r_iald X hR dX1_exchange_43 hw (fun x15 hw => ?_)
        refine lv_icmp_ne (tgt := 51) hx hb dX1_exchange_44 (by decide) (fun c16 => ?_) (fun c16 => ?_)
        · have hw := hw.1 c16
          refine lv_iconst (v := 0) hx hb dX1_exchange_51 (by decide) ?_
          exact t_X1_exchange_J52 X  hw hR (lv_sub hl [0, 1, 2] rfl)
        · have hw := hw.2 c16
          refine lv_iconst (v := 5) hx hb dX1_exchange_47 (by decide) ?_
          refine lv_goto (tgt := 52) hx hb dX1_exchange_48 (by decide) ?_
          exact t_X1_exchange_J52 X  hw hR (lv_sub hl [0, 1, 2] rfl)
      · have hw := hw.2 c9
        exact t_X1_exchange_J22 X  hw hR (lv_sub hl [0, 1, 2] rfl)
theorem t_X1_day_J76 {p : Program} {l : Launch} {e : Env} {s : State} {m : MethodId} {args : Array Value} {below : List Frame} {meth : Method} {c : Code} {g : GT} {h0 : AH} {v0 : Option Nat} {v3 : Int32} {s0 : Int32} {s1 : Int32} {K : Int32 → AH → Prop} {E : Nat → AH → Prop} {L38 : Int32 → Int32 → AH → Prop} {h : AH} {H : Heap} {locs : List Loc} {cells slots : Nat} {ls : Array Slot} (X : Cx g h0 p s m args meth c RX1 cX1_day 4 (Option.some Jvm.ClassFile.FieldType.int)) (k38 : ∀ {v2' : Int32} {v3' : Int32} {h : AH} {H : Heap} {locs : List Loc} {cells slots : Nat} {ls : Array Slot}, L38 v2' v3' h → HS g s h H locs → lv_has ls 4 [(0, va_rf v0), (2, .int (v2')), (3, .int (v3'))] → W p l e (RM 4 h0) s m args below meth c H locs cells slots (MQT below g (qI K) E args s h0) (F0 m 38 ls [])) (hw : w_X1_day_J76 g v0 v3 s0 s1 K E L38 h) (hR : HS g s h H locs) (hl : lv_has ls 4 [(0, va_rf v0), (3, .int v3)]) : W p l e (RM 4 h0) s m args below meth c H locs cells slots (MQT below g (qI K) E args s h0) (F0 m 76 ls [.int s0, .int s1]) := by
  have hx := X.hx
  have hb := X.hb
  unfold w_X1_day_J76 at hw
  refine lv_iadd hx hb dX1_day_76 ?_
  refine r_nmI hw (fun x15 hw => ?_)
  refine lv_istore_n (i := 2) (lv' := [(2, .int x15), (0, va_rf v0), (3, .int v3)]) hx hb dX1_day_77 rfl hl (by decide) rfl (fun ls hl => ?_)
  refine r_iinc X (k := 2) (v := (v3 + 1)) (lv' := fun x16 => [(3, .int x16), (2, .int x15), (0, va_rf v0)]) dX1_day_78 hl rfl rfl (by decide) hw (fun _ => rfl) (fun x16 hw ls hl => ?_)
  refine lv_goto (tgt := 38) hx hb dX1_day_81 (by decide) ?_
  exact k38 hw hR (lv_sub hl [2, 1, 0] rfl)
theorem t_X1_day_L38 {p : Program} {l : Launch} {e : Env} {s : State} {m : MethodId} {args : Array Value} {below : List Frame} {meth : Method} {c : Code} {g : GT} {h0 : AH} {v0 : Option Nat} {K : Int32 → AH → Prop} {E : Nat → AH → Prop} (X : Cx g h0 p s m args meth c RX1 cX1_day 4 (Option.some Jvm.ClassFile.FieldType.int))  : ∀ (n : Nat) {v2 : Int32} {v3 : Int32} {h : AH} {H : Heap} {locs : List Loc} {cells slots : Nat} {ls : Array Slot}, LpN2 (w_X1_day_L38 g v0 K E) n v2 v3 h → HS g s h H locs → lv_has ls 4 [(0, va_rf v0), (2, .int v2), (3, .int v3)] → W p l e (RM 4 h0) s m args below meth c H locs cells slots (MQT below g (qI K) E args s h0) (F0 m 38 ls []) := by
  have hx := X.hx
  have hb := X.hb
  intro n
  induction n with
  | zero =>
    intro v2 v3 h H locs cells slots ls hw
    exact hw.elim
  | succ n k38 =>
    intro v2 v3 h H locs cells slots ls hw hR hl
    have hw : w_X1_day_L38 g v0 K E (LpN2 (w_X1_day_L38 g v0 K E) n) v2 v3 h := hw
    unfold w_X1_day_L38 at hw
    refine lv_iload_n hx hb dX1_day_38 rfl (lv_at hl 2 rfl) ?_
    refine r_aload_n X dX1_day_39 rfl (lv_at hl 0 rfl) ?_
    refine r_gR X hR fk_X1_102 dX1_day_40 hw (fun x5 hw => ?_)
    refine r_gI X hR fk_X1_126 dX1_day_43 hw (fun x6 hw => ?_)
    refine lv_icmp_ge (tgt := 84) hx hb dX1_day_46 (by decide) (fun c7 => ?_) (fun c7 => ?_)
    · have hw := hw.1 c7
      refine lv_iload_n hx hb dX1_day_84 rfl (lv_at hl 1 rfl) ?_
      exact r_iret X hR dX1_day_85 hw
    · have hw := hw.2 c7
      refine lv_iload_n hx hb dX1_day_49 rfl (lv_at hl 1 rfl) ?_
      refine r_aload_n X dX1_day_50 rfl (lv_at hl 0 rfl) ?_
      refine r_gR X hR fk_X1_33 dX1_day_51 hw (fun x8 hw => ?_)
      refine r_gR X hR fk_X1_158 dX1_day_54 hw (fun x9 hw => ?_)
      refine lv_iload_n hx hb dX1_day_57 rfl (lv_at hl 2 rfl) ?_
      refine r_iald X hR dX1_day_58 hw (fun x10 hw => ?_)
      refine r_aload_n X dX1_day_59 rfl (lv_at hl 0 rfl) ?_
      refine r_gR X hR fk_X1_37 dX1_day_60 hw (fun x11 hw => ?_)
      refine r_gR X hR fk_X1_158 dX1_day_63 hw (fun x12 hw => ?_)
      refine lv_iload_n hx hb dX1_day_66 rfl (lv_at hl 2 rfl) ?_
      refine r_iald X hR dX1_day_67 hw (fun x13 hw => ?_)
      refine lv_icmp_ne (tgt := 75) hx hb dX1_day_68 (by decide) (fun c14 => ?_) (fun c14 => ?_)
      · have hw := hw.1 c14
        refine lv_iconst (v := 1) hx hb dX1_day_75 (by decide) ?_
        exact t_X1_day_J76 X k38 hw hR (lv_sub hl [0, 2] rfl)
      · have hw := hw.2 c14
        refine lv_iconst (v := 0) hx hb dX1_day_71 (by decide) ?_
        refine lv_goto (tgt := 76) hx hb dX1_day_72 (by decide) ?_
        exact t_X1_day_J76 X k38 hw hR (lv_sub hl [0, 2] rfl)
theorem c_X1_day (l : Launch) (g : GT) (v0 : Option Nat) (v1 : Int32) : CT qI l yX1_day (ws_ yX1_day cX1_day 4 (Option.some Jvm.ClassFile.FieldType.int)) 4 g [va_rf v0, .int v1] (fun K E h => w_X1_day g v0 v1 K E h) := by
  refine CT_of (lv := [(0, va_rf v0), (1, .int v1)]) (by decide +kernel) (by simp [lg_sl, cat_rf, cat_int, cat_long]) (by simp [lv_args, cat_rf, cat_int, cat_long]) (fun h0 K E p e s m args below meth c H locs cells slots ls X hxt hmn hw hR hl => ?_)
  have hx := X.hx
  have hb := X.hb
  unfold w_X1_day at hw
  refine r_aload_n X dX1_day_0 rfl (lv_at hl 0 rfl) ?_
  refine r_callV X hR (c_V (ci := 1) (q := (RX1, TX1, 21)) X hR hl.1 (c_X1_anew l g v0) (lw_V q455 q457 qs2 q115 q458) rfl rfl mh_X1_anew rfl (by decide) (by decide) rfl (cat4 (Nat.le_of_ble_eq_true rfl)) dX1_day_1 hw) (fun _ h H locs cells slots hR hw => ?_)
  refine r_aload_n X dX1_day_4 rfl (lv_at hl 0 rfl) ?_
  refine r_gR X hR fk_X1_102 dX1_day_5 hw (fun x1 hw => ?_)
  refine r_ifnonnull (tgt := 17) X dX1_day_8 (by decide) (fun c2 => ?_) (fun c2 => ?_)
  · have hw := hw.1 c2
    refine r_aload_n X dX1_day_17 rfl (lv_at hl 0 rfl) ?_
    refine r_callV X hR (c_V (ci := 1) (q := (RX1, TX1, 21)) X hR hl.1 (c_X1_note l g v0) (lw_V q1472 q1474 qs48 q115 q1475) rfl rfl mh_X1_note rfl (by decide) (by decide) rfl (cat4 (Nat.le_of_ble_eq_true rfl)) dX1_day_18 hw) (fun _ h H locs cells slots hR hw => ?_)
    refine r_aload_n X dX1_day_21 rfl (lv_at hl 0 rfl) ?_
    refine r_gR X hR fk_X1_33 dX1_day_22 hw (fun x3 hw => ?_)
    refine lv_iload_n hx hb dX1_day_25 rfl (lv_at hl 1 rfl) ?_
    refine r_callV X hR (c_V (ci := 4) (q := (RX4, TX4, 4)) X hR hl.1 (c_X4_ends l g x3 v1) (lw_V q1292 q1075 q1076 q121 q1077) rfl rfl mh_X4_ends rfl (by decide) (by decide) rfl (cat4 (Nat.le_of_ble_eq_true rfl)) dX1_day_26 hw) (fun _ h H locs cells slots hR hw => ?_)
    refine r_aload_n X dX1_day_29 rfl (lv_at hl 0 rfl) ?_
    refine r_callI X hR (c_V (ci := 1) (q := (RX1, TX1, 21)) X hR hl.1 (c_X1_done l g v0) (lw_V q1476 q1478 qs49 q115 q1479) rfl rfl mh_X1_done rfl (by decide) (by decide) rfl (cat4 (Nat.le_of_ble_eq_true rfl)) dX1_day_30 hw) (fun x4 h H locs cells slots hR hw => ?_)
    refine lv_pop hx hb dX1_day_33 rfl ?_
    refine lv_iconst (v := 0) hx hb dX1_day_34 (by decide) ?_
    refine lv_istore_n (i := 2) (lv' := [(2, .int 0), (0, va_rf v0), (1, .int v1)]) hx hb dX1_day_35 rfl hl (by decide) rfl (fun ls hl => ?_)
    refine lv_iconst (v := 0) hx hb dX1_day_36 (by decide) ?_
    refine lv_istore_n (i := 3) (lv' := [(3, .int 0), (2, .int 0), (0, va_rf v0), (1, .int v1)]) hx hb dX1_day_37 rfl hl (by decide) rfl (fun ls hl => ?_)
    obtain ⟨n, hw⟩ := hw
    exact t_X1_day_L38 X  n hw hR (lv_sub hl [2, 1, 0] rfl)
  · have hw := hw.2 c2
    refine r_aload_n X dX1_day_11 rfl (lv_at hl 0 rfl) ?_
    refine lv_iconst (v := 1) hx hb dX1_day_12 (by decide) ?_
    refine r_callI X hR (c_V (ci := 1) (q := (RX1, TX1, 21)) X hR hl.1 (c_X1_no l g v0 1) (lw_V q462 q464 qs3 q115 q465) rfl rfl mh_X1_no rfl (by decide) (by decide) rfl (cat4 (Nat.le_of_ble_eq_true rfl)) dX1_day_13 hw) (fun x17 h H locs cells slots hR hw => ?_)
    exact r_iret X hR dX1_day_16 hw
theorem t_X1_undo_J14 {p : Program} {l : Launch} {e : Env} {s : State} {m : MethodId} {args : Array Value} {below : List Frame} {meth : Method} {c : Code} {g : GT} {h0 : AH} {v0 : Option Nat} {s0 : Int32} {s1 : Option Nat} {K : Int32 → AH → Prop} {E : Nat → AH → Prop} {h : AH} {H : Heap} {locs : List Loc} {cells slots : Nat} {ls : Array Slot} (X : Cx g h0 p s m args meth c RX1 cX1_undo 1 (Option.some Jvm.ClassFile.FieldType.boolean))  (hw : w_X1_undo_J14 g v0 s0 s1 K E h) (hR : HS g s h H locs) (hl : lv_has ls 1 [(0, va_rf v0)]) : W p l e (RM 3 h0) s m args below meth c H locs cells slots (MQT below g (qI K) E args s h0) (F0 m 14 ls [.int s0, va_rf s1]) := by
  have hx := X.hx
  have hb := X.hb
  unfold w_X1_undo_J14 at hw
  refine r_callI X hR (c_V (ci := 1) (q := (RX1, TX1, 21)) X hR hl.1 (c_X1_yes l g s1 s0) (lw_V q1468 q1470 qs47 q115 q1471) rfl rfl mh_X1_yes rfl (by decide) (by decide) rfl (cat4 (Nat.le_of_ble_eq_true rfl)) dX1_undo_14 hw) (fun x3 h H locs cells slots hR hw => ?_)
  refine lv_if_ne (tgt := 22) hx hb dX1_undo_17 (by decide) (fun c4 => ?_) (fun c4 => ?_)
  · have hw := hw.1 c4
    refine r_aload_n X dX1_undo_22 rfl (lv_at hl 0 rfl) ?_
    refine lv_dup hx hb dX1_undo_23 (cat_rf _) ?_
    refine r_gI X hR fk_X1_120 dX1_undo_24 hw (fun x5 hw => ?_)
    refine lv_iconst (v := 1) hx hb dX1_undo_27 (by decide) ?_
    refine lv_isub hx hb dX1_undo_28 ?_
    refine r_put X hR fp_X1_120 (Or.inl fn_X1_120) (nf_int _) dX1_undo_29 hw (fun H locs h hR hw => ?_)
    refine r_aload_n X dX1_undo_32 rfl (lv_at hl 0 rfl) ?_
    refine r_gR X hR fk_X1_33 dX1_undo_33 hw (fun x6 hw => ?_)
    refine r_aload_n X dX1_undo_36 rfl (lv_at hl 0 rfl) ?_
    refine r_gR X hR fk_X1_67 dX1_undo_37 hw (fun x7 hw => ?_)
    refine r_aload_n X dX1_undo_40 rfl (lv_at hl 0 rfl) ?_
    refine r_gI X hR fk_X1_120 dX1_undo_41 hw (fun x8 hw => ?_)
    refine r_aald X hR (t := 4) (by decide) (by decide) dX1_undo_44 hw (fun x9 hw => ?_)
    refine r_callV X hR (c_V (ci := 4) (q := (RX4, TX4, 4)) X hR hl.1 (c_X4_become l g x6 x9) (lw_V q1287 q1288 q1289 q121 q1290) rfl rfl mh_X4_become rfl (by decide) (by decide) rfl (cat4 (Nat.le_of_ble_eq_true rfl)) dX1_undo_45 hw) (fun _ h H locs cells slots hR hw => ?_)
    refine lv_iconst (v := 1) hx hb dX1_undo_48 (by decide) ?_
    exact r_zret X hR dX1_undo_49 hw
  · have hw := hw.2 c4
    refine lv_iconst (v := 0) hx hb dX1_undo_20 (by decide) ?_
    exact r_zret X hR dX1_undo_21 hw
theorem c_X1_undo (l : Launch) (g : GT) (v0 : Option Nat) : CT qI l yX1_undo (ws_ yX1_undo cX1_undo 1 (Option.some Jvm.ClassFile.FieldType.boolean)) 3 g [va_rf v0] (fun K E h => w_X1_undo g v0 K E h) := by
  refine CT_of (lv := [(0, va_rf v0)]) (by decide +kernel) (by simp [lg_sl, cat_rf, cat_int, cat_long]) (by simp [lv_args, cat_rf, cat_int, cat_long]) (fun h0 K E p e s m args below meth c H locs cells slots ls X hxt hmn hw hR hl => ?_)
  have hx := X.hx
  have hb := X.hb
  unfold w_X1_undo at hw
  refine r_aload_n X dX1_undo_0 rfl (lv_at hl 0 rfl) ?_
  refine r_aload_n X dX1_undo_1 rfl (lv_at hl 0 rfl) ?_
  refine r_gI X hR fk_X1_120 dX1_undo_2 hw (fun x1 hw => ?_)
  refine lv_if_ne (tgt := 13) hx hb dX1_undo_5 (by decide) (fun c2 => ?_) (fun c2 => ?_)
  · have hw := hw.1 c2
    refine lv_iconst (v := 0) hx hb dX1_undo_13 (by decide) ?_
    exact t_X1_undo_J14 X  hw hR (lv_sub hl [0] rfl)
  · have hw := hw.2 c2
    refine lv_bipush (v := 6) hx hb dX1_undo_8 (by decide) ?_
    refine lv_goto (tgt := 14) hx hb dX1_undo_10 (by decide) ?_
    exact t_X1_undo_J14 X  hw hR (lv_sub hl [0] rfl)
theorem c_X1_mark (l : Launch) (g : GT) (v0 : Option Nat) : CT qI l yX1_mark (ws_ yX1_mark cX1_mark 1 (Option.some Jvm.ClassFile.FieldType.int)) 2 g [va_rf v0] (fun K E h => w_X1_mark g v0 K E h) := by
  refine CT_of (lv := [(0, va_rf v0)]) (by decide +kernel) (by simp [lg_sl, cat_rf, cat_int, cat_long]) (by simp [lv_args, cat_rf, cat_int, cat_long]) (fun h0 K E p e s m args below meth c H locs cells slots ls X hxt hmn hw hR hl => ?_)
  have hx := X.hx
  have hb := X.hb
  unfold w_X1_mark at hw
  refine r_aload_n X dX1_mark_0 rfl (lv_at hl 0 rfl) ?_
  refine r_callV X hR (c_V (ci := 1) (q := (RX1, TX1, 21)) X hR hl.1 (c_X1_anew l g v0) (lw_V q455 q457 qs2 q115 q458) rfl rfl mh_X1_anew rfl (by decide) (by decide) rfl (cat4 (Nat.le_of_ble_eq_true rfl)) dX1_mark_1 hw) (fun _ h H locs cells slots hR hw => ?_)
  refine r_aload_n X dX1_mark_4 rfl (lv_at hl 0 rfl) ?_
  refine r_gR X hR fk_X1_102 dX1_mark_5 hw (fun x1 hw => ?_)
  refine r_ifnonnull (tgt := 17) X dX1_mark_8 (by decide) (fun c2 => ?_) (fun c2 => ?_)
  · have hw := hw.1 c2
    refine r_aload_n X dX1_mark_17 rfl (lv_at hl 0 rfl) ?_
    refine r_gI X hR fk_X1_123 dX1_mark_18 hw (fun x3 hw => ?_)
    refine lv_iconst (v := 3) hx hb dX1_mark_21 (by decide) ?_
    refine lv_icmp_ne (tgt := 31) hx hb dX1_mark_22 (by decide) (fun c4 => ?_) (fun c4 => ?_)
    · have hw := hw.1 c4
      refine r_aload_n X dX1_mark_31 rfl (lv_at hl 0 rfl) ?_
      refine r_gR X hR fk_X1_71 dX1_mark_32 hw (fun x5 hw => ?_)
      refine r_aload_n X dX1_mark_35 rfl (lv_at hl 0 rfl) ?_
      refine r_gI X hR fk_X1_123 dX1_mark_36 hw (fun x6 hw => ?_)
      refine r_aald X hR (t := 4) (by decide) (by decide) dX1_mark_39 hw (fun x7 hw => ?_)
      refine r_aload_n X dX1_mark_40 rfl (lv_at hl 0 rfl) ?_
      refine r_gR X hR fk_X1_33 dX1_mark_41 hw (fun x8 hw => ?_)
      refine r_callV X hR (c_V (ci := 4) (q := (RX4, TX4, 4)) X hR hl.1 (c_X4_become l g x7 x8) (lw_V q1287 q1288 q1289 q121 q1290) rfl rfl mh_X4_become rfl (by decide) (by decide) rfl (cat4 (Nat.le_of_ble_eq_true rfl)) dX1_mark_44 hw) (fun _ h H locs cells slots hR hw => ?_)
      refine r_aload_n X dX1_mark_47 rfl (lv_at hl 0 rfl) ?_
      refine lv_dup hx hb dX1_mark_48 (cat_rf _) ?_
      refine r_gI X hR fk_X1_123 dX1_mark_49 hw (fun x9 hw => ?_)
      refine lv_iconst (v := 1) hx hb dX1_mark_52 (by decide) ?_
      refine lv_iadd hx hb dX1_mark_53 ?_
      refine r_put X hR fp_X1_123 (Or.inl fn_X1_123) (nf_int _) dX1_mark_54 hw (fun H locs h hR hw => ?_)
      refine r_aload_n X dX1_mark_57 rfl (lv_at hl 0 rfl) ?_
      refine r_gI X hR fk_X1_123 dX1_mark_58 hw (fun x10 hw => ?_)
      refine lv_iconst (v := 1) hx hb dX1_mark_61 (by decide) ?_
      refine lv_isub hx hb dX1_mark_62 ?_
      exact r_iret X hR dX1_mark_63 hw
    · have hw := hw.2 c4
      refine r_aload_n X dX1_mark_25 rfl (lv_at hl 0 rfl) ?_
      refine lv_iconst (v := 3) hx hb dX1_mark_26 (by decide) ?_
      refine r_callI X hR (c_V (ci := 1) (q := (RX1, TX1, 21)) X hR hl.1 (c_X1_no l g v0 3) (lw_V q462 q464 qs3 q115 q465) rfl rfl mh_X1_no rfl (by decide) (by decide) rfl (cat4 (Nat.le_of_ble_eq_true rfl)) dX1_mark_27 hw) (fun x11 h H locs cells slots hR hw => ?_)
      exact r_iret X hR dX1_mark_30 hw
  · have hw := hw.2 c2
    refine r_aload_n X dX1_mark_11 rfl (lv_at hl 0 rfl) ?_
    refine lv_iconst (v := 1) hx hb dX1_mark_12 (by decide) ?_
    refine r_callI X hR (c_V (ci := 1) (q := (RX1, TX1, 21)) X hR hl.1 (c_X1_no l g v0 1) (lw_V q462 q464 qs3 q115 q465) rfl rfl mh_X1_no rfl (by decide) (by decide) rfl (cat4 (Nat.le_of_ble_eq_true rfl)) dX1_mark_13 hw) (fun x12 h H locs cells slots hR hw => ?_)
    exact r_iret X hR dX1_mark_16 hw
theorem t_X1_back_J20 {p : Program} {l : Launch} {e : Env} {s : State} {m : MethodId} {args : Array Value} {below : List Frame} {meth : Method} {c : Code} {g : GT} {h0 : AH} {v0 : Option Nat} {v1 : Int32} {s0 : Int32} {s1 : Option Nat} {K : Int32 → AH → Prop} {E : Nat → AH → Prop} {h : AH} {H : Heap} {locs : List Loc} {cells slots : Nat} {ls : Array Slot} (X : Cx g h0 p s m args meth c RX1 cX1_back 2 (Option.some Jvm.ClassFile.FieldType.boolean))  (hw : w_X1_back_J20 g v0 v1 s0 s1 K E h) (hR : HS g s h H locs) (hl : lv_has ls 2 [(0, va_rf v0), (1, .int v1)]) : W p l e (RM 3 h0) s m args below meth c H locs cells slots (MQT below g (qI K) E args s h0) (F0 m 20 ls [.int s0, va_rf s1]) := by
  have hx := X.hx
  have hb := X.hb
  unfold w_X1_back_J20 at hw
  refine r_callI X hR (c_V (ci := 1) (q := (RX1, TX1, 21)) X hR hl.1 (c_X1_yes l g s1 s0) (lw_V q1468 q1470 qs47 q115 q1471) rfl rfl mh_X1_yes rfl (by decide) (by decide) rfl (cat4 (Nat.le_of_ble_eq_true rfl)) dX1_back_20 hw) (fun x4 h H locs cells slots hR hw => ?_)
  refine lv_if_ne (tgt := 28) hx hb dX1_back_23 (by decide) (fun c5 => ?_) (fun c5 => ?_)
  · have hw := hw.1 c5
    refine r_aload_n X dX1_back_28 rfl (lv_at hl 0 rfl) ?_
    refine r_gR X hR fk_X1_33 dX1_back_29 hw (fun x6 hw => ?_)
    refine r_aload_n X dX1_back_32 rfl (lv_at hl 0 rfl) ?_
    refine r_gR X hR fk_X1_71 dX1_back_33 hw (fun x7 hw => ?_)
    refine lv_iload_n hx hb dX1_back_36 rfl (lv_at hl 1 rfl) ?_
    refine r_aald X hR (t := 4) (by decide) (by decide) dX1_back_37 hw (fun x8 hw => ?_)
    refine r_callV X hR (c_V (ci := 4) (q := (RX4, TX4, 4)) X hR hl.1 (c_X4_become l g x6 x8) (lw_V q1287 q1288 q1289 q121 q1290) rfl rfl mh_X4_become rfl (by decide) (by decide) rfl (cat4 (Nat.le_of_ble_eq_true rfl)) dX1_back_38 hw) (fun _ h H locs cells slots hR hw => ?_)
    refine r_aload_n X dX1_back_41 rfl (lv_at hl 0 rfl) ?_
    refine lv_iconst (v := 0) hx hb dX1_back_42 (by decide) ?_
    refine r_put X hR fp_X1_120 (Or.inl fn_X1_120) (nf_int _) dX1_back_43 hw (fun H locs h hR hw => ?_)
    refine lv_iconst (v := 1) hx hb dX1_back_46 (by decide) ?_
    exact r_zret X hR dX1_back_47 hw
  · have hw := hw.2 c5
    refine lv_iconst (v := 0) hx hb dX1_back_26 (by decide) ?_
    exact r_zret X hR dX1_back_27 hw
theorem c_X1_back (l : Launch) (g : GT) (v0 : Option Nat) (v1 : Int32) : CT qI l yX1_back (ws_ yX1_back cX1_back 2 (Option.some Jvm.ClassFile.FieldType.boolean)) 3 g [va_rf v0, .int v1] (fun K E h => w_X1_back g v0 v1 K E h) := by
  refine CT_of (lv := [(0, va_rf v0), (1, .int v1)]) (by decide +kernel) (by simp [lg_sl, cat_rf, cat_int, cat_long]) (by simp [lv_args, cat_rf, cat_int, cat_long]) (fun h0 K E p e s m args below meth c H locs cells slots ls X hxt hmn hw hR hl => ?_)
  have hx := X.hx
  have hb := X.hb
  unfold w_X1_back at hw
  refine r_aload_n X dX1_back_0 rfl (lv_at hl 0 rfl) ?_
  refine lv_iload_n hx hb dX1_back_1 rfl (lv_at hl 1 rfl) ?_
  refine lv_iconst (v := 0) hx hb dX1_back_2 (by decide) ?_
  refine r_aload_n X dX1_back_3 rfl (lv_at hl 0 rfl) ?_
  refine r_gI X hR fk_X1_123 dX1_back_4 hw (fun x1 hw => ?_)
  refine lv_iconst (v := 1) hx hb dX1_back_7 (by decide) ?_
  refine lv_isub hx hb dX1_back_8 ?_
  refine r_callI X hR (c_S X hR hl.1 (c_X1_in l g v1 0 (x1 - 1)) (lw_S q459 q460 q115 q461) mh_X1_in rfl (by decide) (by decide) rfl (cat4 (Nat.le_of_ble_eq_true rfl)) dX1_back_9 hw) (fun x2 h H locs cells slots hR hw => ?_)
  refine lv_if_eq (tgt := 19) hx hb dX1_back_12 (by decide) (fun c3 => ?_) (fun c3 => ?_)
  · have hw := hw.1 c3
    refine lv_iconst (v := 1) hx hb dX1_back_19 (by decide) ?_
    exact t_X1_back_J20 X  hw hR (lv_sub hl [0, 1] rfl)
  · have hw := hw.2 c3
    refine lv_iconst (v := 0) hx hb dX1_back_15 (by decide) ?_
    refine lv_goto (tgt := 20) hx hb dX1_back_16 (by decide) ?_
    exact t_X1_back_J20 X  hw hR (lv_sub hl [0, 1] rfl)
theorem c_X1_size (l : Launch) (g : GT) (v0 : Option Nat) (v1 : Int32) : CT qI l yX1_size (ws_ yX1_size cX1_size 2 (Option.some Jvm.ClassFile.FieldType.int)) 2 g [va_rf v0, .int v1] (fun K E h => w_X1_size g v0 v1 K E h) := by
  refine CT_of (lv := [(0, va_rf v0), (1, .int v1)]) (by decide +kernel) (by simp [lg_sl, cat_rf, cat_int, cat_long]) (by simp [lv_args, cat_rf, cat_int, cat_long]) (fun h0 K E p e s m args below meth c H locs cells slots ls X hxt hmn hw hR hl => ?_)
  have hx := X.hx
  have hb := X.hb
  unfold w_X1_size at hw
  refine lv_iload_n hx hb dX1_size_0 rfl (lv_at hl 1 rfl) ?_
  refine lv_bipush (v := 10) hx hb dX1_size_1 (by decide) ?_
  refine lv_icmp_ne (tgt := 11) hx hb dX1_size_3 (by decide) (fun c1 => ?_) (fun c1 => ?_)
  · have hw := hw.1 c1
    refine r_aload_n X dX1_size_11 rfl (lv_at hl 0 rfl) ?_
    refine r_gR X hR fk_X1_102 dX1_size_12 hw (fun x2 hw => ?_)
    refine r_ifnonnull (tgt := 34) X dX1_size_15 (by decide) (fun c3 => ?_) (fun c3 => ?_)
    · have hw := hw.1 c3
      refine lv_iload_n hx hb dX1_size_34 rfl (lv_at hl 1 rfl) ?_
      by_cases c4_0 : v1 = 0
      · have hw := swT_at hw 0 rfl c4_0
        rw [c4_0]
        refine lv_tableIn (tgt := 88) hx hb dX1_size_35 (by decide) (by decide) rfl (by decide) ?_
        refine r_aload_n X dX1_size_88 rfl (lv_at hl 0 rfl) ?_
        refine r_gR X hR fk_X1_102 dX1_size_89 hw (fun x5 hw => ?_)
        refine r_gI X hR fk_X1_314 dX1_size_92 hw (fun x6 hw => ?_)
        exact r_iret X hR dX1_size_95 hw
      by_cases c4_1 : v1 = 1
      · have hw := swT_at hw 1 rfl c4_1
        rw [c4_1]
        refine lv_tableIn (tgt := 96) hx hb dX1_size_35 (by decide) (by decide) rfl (by decide) ?_
        refine r_aload_n X dX1_size_96 rfl (lv_at hl 0 rfl) ?_
        refine r_gR X hR fk_X1_102 dX1_size_97 hw (fun x7 hw => ?_)
        refine r_gI X hR fk_X1_253 dX1_size_100 hw (fun x8 hw => ?_)
        exact r_iret X hR dX1_size_103 hw
      by_cases c4_2 : v1 = 2
      · have hw := swT_at hw 2 rfl c4_2
        rw [c4_2]
        refine lv_tableIn (tgt := 104) hx hb dX1_size_35 (by decide) (by decide) rfl (by decide) ?_
        refine r_aload_n X dX1_size_104 rfl (lv_at hl 0 rfl) ?_
        refine r_gR X hR fk_X1_102 dX1_size_105 hw (fun x9 hw => ?_)
        refine r_gI X hR fk_X1_291 dX1_size_108 hw (fun x10 hw => ?_)
        exact r_iret X hR dX1_size_111 hw
      by_cases c4_3 : v1 = 3
      · have hw := swT_at hw 3 rfl c4_3
        rw [c4_3]
        refine lv_tableIn (tgt := 112) hx hb dX1_size_35 (by decide) (by decide) rfl (by decide) ?_
        refine r_aload_n X dX1_size_112 rfl (lv_at hl 0 rfl) ?_
        refine r_gR X hR fk_X1_102 dX1_size_113 hw (fun x11 hw => ?_)
        refine r_gI X hR fk_X1_131 dX1_size_116 hw (fun x12 hw => ?_)
        exact r_iret X hR dX1_size_119 hw
      by_cases c4_4 : v1 = 4
      · have hw := swT_at hw 4 rfl c4_4
        rw [c4_4]
        refine lv_tableIn (tgt := 120) hx hb dX1_size_35 (by decide) (by decide) rfl (by decide) ?_
        refine r_aload_n X dX1_size_120 rfl (lv_at hl 0 rfl) ?_
        refine r_gR X hR fk_X1_102 dX1_size_121 hw (fun x13 hw => ?_)
        refine r_gI X hR fk_X1_126 dX1_size_124 hw (fun x14 hw => ?_)
        exact r_iret X hR dX1_size_127 hw
      by_cases c4_5 : v1 = 5
      · have hw := swT_at hw 5 rfl c4_5
        rw [c4_5]
        refine lv_tableIn (tgt := 128) hx hb dX1_size_35 (by decide) (by decide) rfl (by decide) ?_
        refine r_aload_n X dX1_size_128 rfl (lv_at hl 0 rfl) ?_
        refine r_gR X hR fk_X1_102 dX1_size_129 hw (fun x15 hw => ?_)
        refine r_gI X hR fk_X1_317 dX1_size_132 hw (fun x16 hw => ?_)
        exact r_iret X hR dX1_size_135 hw
      by_cases c4_6 : v1 = 6
      · have hw := swT_at hw 6 rfl c4_6
        rw [c4_6]
        refine lv_tableIn (tgt := 136) hx hb dX1_size_35 (by decide) (by decide) rfl (by decide) ?_
        refine r_aload_n X dX1_size_136 rfl (lv_at hl 0 rfl) ?_
        refine r_gR X hR fk_X1_102 dX1_size_137 hw (fun x17 hw => ?_)
        refine r_gI X hR fk_X1_320 dX1_size_140 hw (fun x18 hw => ?_)
        exact r_iret X hR dX1_size_143 hw
      by_cases c4_7 : v1 = 7
      · have hw := swT_at hw 7 rfl c4_7
        rw [c4_7]
        refine lv_tableIn (tgt := 144) hx hb dX1_size_35 (by decide) (by decide) rfl (by decide) ?_
        refine r_aload_n X dX1_size_144 rfl (lv_at hl 0 rfl) ?_
        refine r_gR X hR fk_X1_33 dX1_size_145 hw (fun x19 hw => ?_)
        refine r_gI X hR fk_X1_323 dX1_size_148 hw (fun x20 hw => ?_)
        exact r_iret X hR dX1_size_151 hw
      by_cases c4_8 : v1 = 8
      · have hw := swT_at hw 8 rfl c4_8
        rw [c4_8]
        refine lv_tableIn (tgt := 152) hx hb dX1_size_35 (by decide) (by decide) rfl (by decide) ?_
        refine r_aload_n X dX1_size_152 rfl (lv_at hl 0 rfl) ?_
        refine r_gI X hR fk_X1_120 dX1_size_153 hw (fun x21 hw => ?_)
        exact r_iret X hR dX1_size_156 hw
      by_cases c4_9 : v1 = 9
      · have hw := swT_at hw 9 rfl c4_9
        rw [c4_9]
        refine lv_tableIn (tgt := 157) hx hb dX1_size_35 (by decide) (by decide) rfl (by decide) ?_
        refine r_aload_n X dX1_size_157 rfl (lv_at hl 0 rfl) ?_
        refine r_gI X hR fk_X1_123 dX1_size_158 hw (fun x22 hw => ?_)
        exact r_iret X hR dX1_size_161 hw
      have hw := hw.2 (List.forall_mem_cons.mpr ⟨c4_0, (List.forall_mem_cons.mpr ⟨c4_1, (List.forall_mem_cons.mpr ⟨c4_2, (List.forall_mem_cons.mpr ⟨c4_3, (List.forall_mem_cons.mpr ⟨c4_4, (List.forall_mem_cons.mpr ⟨c4_5, (List.forall_mem_cons.mpr ⟨c4_6, (List.forall_mem_cons.mpr ⟨c4_7, (List.forall_mem_cons.mpr ⟨c4_8, (List.forall_mem_cons.mpr ⟨c4_9, (fun _ h => absurd h List.not_mem_nil)⟩)⟩)⟩)⟩)⟩)⟩)⟩)⟩)⟩)⟩)
      refine lv_tableOut (tgt := 162) hx hb dX1_size_35 (sw_out (x := v1) (lo := 0) (n := 10) (by decide) (lt_s (lt_s (lt_s (lt_s (lt_s (lt_s (lt_s (lt_s (lt_s (lt_s lt_0 c4_0) c4_1) c4_2) c4_3) c4_4) c4_5) c4_6) c4_7) c4_8) c4_9)) (by decide) ?_
      refine lv_iconst (v := (-1)) hx hb dX1_size_162 (by decide) ?_
      exact r_iret X hR dX1_size_163 hw
    · have hw := hw.2 c3
      refine lv_iload_n hx hb dX1_size_18 rfl (lv_at hl 1 rfl) ?_
      refine lv_iconst (v := 0) hx hb dX1_size_19 (by decide) ?_
      refine lv_bipush (v := 9) hx hb dX1_size_20 (by decide) ?_
      refine r_callI X hR (c_S X hR hl.1 (c_X1_in l g v1 0 9) (lw_S q459 q460 q115 q461) mh_X1_in rfl (by decide) (by decide) rfl (cat4 (Nat.le_of_ble_eq_true rfl)) dX1_size_22 hw) (fun x23 h H locs cells slots hR hw => ?_)
      refine lv_if_eq (tgt := 32) hx hb dX1_size_25 (by decide) (fun c24 => ?_) (fun c24 => ?_)
      · have hw := hw.1 c24
        refine lv_iconst (v := (-1)) hx hb dX1_size_32 (by decide) ?_
        exact r_iret X hR dX1_size_33 hw
      · have hw := hw.2 c24
        refine lv_iconst (v := 0) hx hb dX1_size_28 (by decide) ?_
        refine lv_goto (tgt := 33) hx hb dX1_size_29 (by decide) ?_
        exact r_iret X hR dX1_size_33 hw
  · have hw := hw.2 c1
    refine r_aload_n X dX1_size_6 rfl (lv_at hl 0 rfl) ?_
    refine r_gI X hR fk_X1_80 dX1_size_7 hw (fun x25 hw => ?_)
    exact r_iret X hR dX1_size_10 hw
theorem c_X1_trouble (l : Launch) (g : GT) (v0 : Option Nat) : CT qI l yX1_trouble (ws_ yX1_trouble cX1_trouble 1 (Option.some Jvm.ClassFile.FieldType.int)) 1 g [va_rf v0] (fun K E h => w_X1_trouble g v0 K E h) := by
  refine CT_of (lv := [(0, va_rf v0)]) (by decide +kernel) (by simp [lg_sl, cat_rf, cat_int, cat_long]) (by simp [lv_args, cat_rf, cat_int, cat_long]) (fun h0 K E p e s m args below meth c H locs cells slots ls X hxt hmn hw hR hl => ?_)
  have hx := X.hx
  have hb := X.hb
  unfold w_X1_trouble at hw
  refine r_aload_n X dX1_trouble_0 rfl (lv_at hl 0 rfl) ?_
  refine r_gI X hR fk_X1_74 dX1_trouble_1 hw (fun x1 hw => ?_)
  exact r_iret X hR dX1_trouble_4 hw
theorem c_X26_init (l : Launch) (g : GT) (v0 : Option Nat) : CT qV l yX26_init (ws_ yX26_init cX26_init 1 none) 1 g [va_rf v0] (fun K E h => w_X26_init g v0 K E h) := by
  refine CT_of (lv := [(0, va_rf v0)]) (by decide +kernel) (by simp [lg_sl, cat_rf, cat_int, cat_long]) (by simp [lv_args, cat_rf, cat_int, cat_long]) (fun h0 K E p e s m args below meth c H locs cells slots ls X hxt hmn hw hR hl => ?_)
  have hx := X.hx
  have hb := X.hb
  unfold w_X26_init at hw
  refine r_aload_n X dX26_init_0 rfl (lv_at hl 0 rfl) ?_
  obtain ⟨z1, hw⟩ := hw
  refine r_objInit X hl.1 z1 q1666 q158 q159 (by decide) (cat4 (Nat.le_of_ble_eq_true rfl)) dX26_init_1 ?_
  refine r_aload_n X dX26_init_4 rfl (lv_at hl 0 rfl) ?_
  refine lv_bipush (v := 6) hx hb dX26_init_5 (by decide) ?_
  refine r_newa X hR (atype := .int) (t := 0) q301 (by decide) rfl dX26_init_7 hw (fun H cells slots x2 h hR hw => ?_)
  refine r_put X hR fp_X26_9 (Or.inr hmn) (nf_arr _ _) dX26_init_9 hw (fun H locs h hR hw => ?_)
  refine r_aload_n X dX26_init_12 rfl (lv_at hl 0 rfl) ?_
  refine lv_iconst (v := 5) hx hb dX26_init_13 (by decide) ?_
  refine r_newa X hR (atype := .int) (t := 0) q301 (by decide) rfl dX26_init_14 hw (fun H cells slots x3 h hR hw => ?_)
  refine r_put X hR fp_X26_15 (Or.inr hmn) (nf_arr _ _) dX26_init_16 hw (fun H locs h hR hw => ?_)
  refine r_aload_n X dX26_init_19 rfl (lv_at hl 0 rfl) ?_
  refine lv_iconst (v := 5) hx hb dX26_init_20 (by decide) ?_
  refine r_newa X hR (atype := .int) (t := 0) q301 (by decide) rfl dX26_init_21 hw (fun H cells slots x4 h hR hw => ?_)
  refine r_put X hR fp_X26_18 (Or.inr hmn) (nf_arr _ _) dX26_init_23 hw (fun H locs h hR hw => ?_)
  refine r_aload_n X dX26_init_26 rfl (lv_at hl 0 rfl) ?_
  refine lv_iconst (v := 5) hx hb dX26_init_27 (by decide) ?_
  refine r_newa X hR (atype := .int) (t := 0) q301 (by decide) rfl dX26_init_28 hw (fun H cells slots x5 h hR hw => ?_)
  refine r_put X hR fp_X26_21 (Or.inr hmn) (nf_arr _ _) dX26_init_30 hw (fun H locs h hR hw => ?_)
  refine r_aload_n X dX26_init_33 rfl (lv_at hl 0 rfl) ?_
  refine lv_iconst (v := 5) hx hb dX26_init_34 (by decide) ?_
  refine r_newa X hR (atype := .int) (t := 0) q301 (by decide) rfl dX26_init_35 hw (fun H cells slots x6 h hR hw => ?_)
  refine r_put X hR fp_X26_24 (Or.inr hmn) (nf_arr _ _) dX26_init_37 hw (fun H locs h hR hw => ?_)
  refine r_aload_n X dX26_init_40 rfl (lv_at hl 0 rfl) ?_
  refine lv_bipush (v := 16) hx hb dX26_init_41 (by decide) ?_
  refine r_newa X hR (atype := .int) (t := 0) q301 (by decide) rfl dX26_init_43 hw (fun H cells slots x7 h hR hw => ?_)
  refine r_put X hR fp_X26_27 (Or.inr hmn) (nf_arr _ _) dX26_init_45 hw (fun H locs h hR hw => ?_)
  refine r_aload_n X dX26_init_48 rfl (lv_at hl 0 rfl) ?_
  refine lv_bipush (v := 16) hx hb dX26_init_49 (by decide) ?_
  refine r_newa X hR (atype := .int) (t := 0) q301 (by decide) rfl dX26_init_51 hw (fun H cells slots x8 h hR hw => ?_)
  refine r_put X hR fp_X26_30 (Or.inr hmn) (nf_arr _ _) dX26_init_53 hw (fun H locs h hR hw => ?_)
  refine r_aload_n X dX26_init_56 rfl (lv_at hl 0 rfl) ?_
  refine lv_bipush (v := 16) hx hb dX26_init_57 (by decide) ?_
  refine r_newa X hR (atype := .int) (t := 0) q301 (by decide) rfl dX26_init_59 hw (fun H cells slots x9 h hR hw => ?_)
  refine r_put X hR fp_X26_33 (Or.inr hmn) (nf_arr _ _) dX26_init_61 hw (fun H locs h hR hw => ?_)
  refine r_aload_n X dX26_init_64 rfl (lv_at hl 0 rfl) ?_
  refine lv_bipush (v := 16) hx hb dX26_init_65 (by decide) ?_
  refine r_newa X hR (atype := .int) (t := 0) q301 (by decide) rfl dX26_init_67 hw (fun H cells slots x10 h hR hw => ?_)
  refine r_put X hR fp_X26_36 (Or.inr hmn) (nf_arr _ _) dX26_init_69 hw (fun H locs h hR hw => ?_)
  refine r_aload_n X dX26_init_72 rfl (lv_at hl 0 rfl) ?_
  refine lv_bipush (v := 6) hx hb dX26_init_73 (by decide) ?_
  refine r_newa X hR (atype := .int) (t := 0) q301 (by decide) rfl dX26_init_75 hw (fun H cells slots x11 h hR hw => ?_)
  refine r_put X hR fp_X26_39 (Or.inr hmn) (nf_arr _ _) dX26_init_77 hw (fun H locs h hR hw => ?_)
  refine r_aload_n X dX26_init_80 rfl (lv_at hl 0 rfl) ?_
  refine lv_bipush (v := 6) hx hb dX26_init_81 (by decide) ?_
  refine r_newa X hR (atype := .int) (t := 0) q301 (by decide) rfl dX26_init_83 hw (fun H cells slots x12 h hR hw => ?_)
  refine r_put X hR fp_X26_42 (Or.inr hmn) (nf_arr _ _) dX26_init_85 hw (fun H locs h hR hw => ?_)
  refine r_aload_n X dX26_init_88 rfl (lv_at hl 0 rfl) ?_
  refine lv_bipush (v := 6) hx hb dX26_init_89 (by decide) ?_
  refine r_newa X hR (atype := .int) (t := 0) q301 (by decide) rfl dX26_init_91 hw (fun H cells slots x13 h hR hw => ?_)
  refine r_put X hR fp_X26_45 (Or.inr hmn) (nf_arr _ _) dX26_init_93 hw (fun H locs h hR hw => ?_)
  refine r_aload_n X dX26_init_96 rfl (lv_at hl 0 rfl) ?_
  refine lv_bipush (v := 11) hx hb dX26_init_97 (by decide) ?_
  refine r_newa X hR (atype := .long) (t := 3) q1753 (by decide) rfl dX26_init_99 hw (fun H cells slots x14 h hR hw => ?_)
  refine r_put X hR fp_X26_48 (Or.inr hmn) (nf_arr _ _) dX26_init_101 hw (fun H locs h hR hw => ?_)
  refine r_aload_n X dX26_init_104 rfl (lv_at hl 0 rfl) ?_
  refine lv_bipush (v := 11) hx hb dX26_init_105 (by decide) ?_
  refine r_newa X hR (atype := .int) (t := 0) q301 (by decide) rfl dX26_init_107 hw (fun H cells slots x15 h hR hw => ?_)
  refine r_put X hR fp_X26_52 (Or.inr hmn) (nf_arr _ _) dX26_init_109 hw (fun H locs h hR hw => ?_)
  refine r_aload_n X dX26_init_112 rfl (lv_at hl 0 rfl) ?_
  refine lv_bipush (v := 11) hx hb dX26_init_113 (by decide) ?_
  refine r_newa X hR (atype := .int) (t := 0) q301 (by decide) rfl dX26_init_115 hw (fun H cells slots x16 h hR hw => ?_)
  refine r_put X hR fp_X26_55 (Or.inr hmn) (nf_arr _ _) dX26_init_117 hw (fun H locs h hR hw => ?_)
  exact r_vret X hR rfl dX26_init_120 hw
theorem t_X26_find_L2 {p : Program} {l : Launch} {e : Env} {s : State} {m : MethodId} {args : Array Value} {below : List Frame} {meth : Method} {c : Code} {g : GT} {h0 : AH} {v0 : Option Nat} {v1 : Int64} {K : Int32 → AH → Prop} {E : Nat → AH → Prop} (X : Cx g h0 p s m args meth c RX26 cX26_find 4 (Option.some Jvm.ClassFile.FieldType.int))  : ∀ (n : Nat) {v3 : Int32} {h : AH} {H : Heap} {locs : List Loc} {cells slots : Nat} {ls : Array Slot}, LpN1 (w_X26_find_L2 g v0 v1 K E) n v3 h → HS g s h H locs → lv_has ls 4 [(0, va_rf v0), (1, .long v1), (3, .int v3)] → W p l e (RM 1 h0) s m args below meth c H locs cells slots (MQT below g (qI K) E args s h0) (F0 m 2 ls []) := by
  have hx := X.hx
  have hb := X.hb
  intro n
  induction n with
  | zero =>
    intro v3 h H locs cells slots ls hw
    exact hw.elim
  | succ n k2 =>
    intro v3 h H locs cells slots ls hw hR hl
    have hw : w_X26_find_L2 g v0 v1 K E (LpN1 (w_X26_find_L2 g v0 v1 K E) n) v3 h := hw
    unfold w_X26_find_L2 at hw
    refine lv_iload_n hx hb dX26_find_2 rfl (lv_at hl 2 rfl) ?_
    refine r_aload_n X dX26_find_3 rfl (lv_at hl 0 rfl) ?_
    refine r_gI X hR fk_X26_58 dX26_find_4 hw (fun x1 hw => ?_)
    refine lv_icmp_ge (tgt := 29) hx hb dX26_find_7 (by decide) (fun c2 => ?_) (fun c2 => ?_)
    · have hw := hw.1 c2
      refine lv_iconst (v := (-1)) hx hb dX26_find_29 (by decide) ?_
      exact r_iret X hR dX26_find_30 hw
    · have hw := hw.2 c2
      refine r_aload_n X dX26_find_10 rfl (lv_at hl 0 rfl) ?_
      refine r_gR X hR fk_X26_48 dX26_find_11 hw (fun x3 hw => ?_)
      refine lv_iload_n hx hb dX26_find_14 rfl (lv_at hl 2 rfl) ?_
      refine r_lald X hR dX26_find_15 hw (fun x4 hw => ?_)
      refine lv_lload_n hx hb dX26_find_16 rfl (lv_at hl 1 rfl) ?_
      refine W.lcmp hx hb dX26_find_17 ?_
      refine lv_if_ne (tgt := 23) hx hb dX26_find_18 (by decide) (fun c5 => ?_) (fun c5 => ?_)
      · have hw := hw.1 c5
        refine r_iinc X (k := 2) (v := (v3 + 1)) (lv' := fun x6 => [(3, .int x6), (0, va_rf v0), (1, .long v1)]) dX26_find_23 hl rfl rfl (by decide) hw (fun _ => rfl) (fun x6 hw ls hl => ?_)
        refine lv_goto (tgt := 2) hx hb dX26_find_26 (by decide) ?_
        exact k2 hw hR (lv_sub hl [1, 2, 0] rfl)
      · have hw := hw.2 c5
        refine lv_iload_n hx hb dX26_find_21 rfl (lv_at hl 2 rfl) ?_
        exact r_iret X hR dX26_find_22 hw
theorem c_X26_find (l : Launch) (g : GT) (v0 : Option Nat) (v1 : Int64) : CT qI l yX26_find (ws_ yX26_find cX26_find 4 (Option.some Jvm.ClassFile.FieldType.int)) 1 g [va_rf v0, .long v1] (fun K E h => w_X26_find g v0 v1 K E h) := by
  refine CT_of (lv := [(0, va_rf v0), (1, .long v1)]) (by decide +kernel) (by simp [lg_sl, cat_rf, cat_int, cat_long]) (by simp [lv_args, cat_rf, cat_int, cat_long]) (fun h0 K E p e s m args below meth c H locs cells slots ls X hxt hmn hw hR hl => ?_)
  have hx := X.hx
  have hb := X.hb
  unfold w_X26_find at hw
  refine lv_iconst (v := 0) hx hb dX26_find_0 (by decide) ?_
  refine lv_istore_n (i := 3) (lv' := [(3, .int 0), (0, va_rf v0), (1, .long v1)]) hx hb dX26_find_1 rfl hl (by decide) rfl (fun ls hl => ?_)
  obtain ⟨n, hw⟩ := hw
  exact t_X26_find_L2 X  n hw hR (lv_sub hl [1, 2, 0] rfl)
theorem c_X26_areAlike (l : Launch) (g : GT) (v0 : Option Nat) (v1 : Int32) (v2 : Int32) : CT qI l yX26_areAlike (ws_ yX26_areAlike cX26_areAlike 3 (Option.some Jvm.ClassFile.FieldType.boolean)) 1 g [va_rf v0, .int v1, .int v2] (fun K E h => w_X26_areAlike g v0 v1 v2 K E h) := by
  refine CT_of (lv := [(0, va_rf v0), (1, .int v1), (2, .int v2)]) (by decide +kernel) (by simp [lg_sl, cat_rf, cat_int, cat_long]) (by simp [lv_args, cat_rf, cat_int, cat_long]) (fun h0 K E p e s m args below meth c H locs cells slots ls X hxt hmn hw hR hl => ?_)
  have hx := X.hx
  have hb := X.hb
  unfold w_X26_areAlike at hw
  refine lv_iload_n hx hb dX26_areAlike_0 rfl (lv_at hl 1 rfl) ?_
  refine lv_iload_n hx hb dX26_areAlike_1 rfl (lv_at hl 2 rfl) ?_
  refine lv_icmp_eq (tgt := 39) hx hb dX26_areAlike_2 (by decide) (fun c1 => ?_) (fun c1 => ?_)
  · have hw := hw.1 c1
    refine lv_iconst (v := 0) hx hb dX26_areAlike_39 (by decide) ?_
    exact r_zret X hR dX26_areAlike_40 hw
  · have hw := hw.2 c1
    refine r_aload_n X dX26_areAlike_5 rfl (lv_at hl 0 rfl) ?_
    refine r_gR X hR fk_X26_15 dX26_areAlike_6 hw (fun x2 hw => ?_)
    refine lv_iload_n hx hb dX26_areAlike_9 rfl (lv_at hl 1 rfl) ?_
    refine r_iald X hR dX26_areAlike_10 hw (fun x3 hw => ?_)
    refine r_aload_n X dX26_areAlike_11 rfl (lv_at hl 0 rfl) ?_
    refine r_gR X hR fk_X26_15 dX26_areAlike_12 hw (fun x4 hw => ?_)
    refine lv_iload_n hx hb dX26_areAlike_15 rfl (lv_at hl 2 rfl) ?_
    refine r_iald X hR dX26_areAlike_16 hw (fun x5 hw => ?_)
    refine lv_icmp_ne (tgt := 39) hx hb dX26_areAlike_17 (by decide) (fun c6 => ?_) (fun c6 => ?_)
    · have hw := hw.1 c6
      refine lv_iconst (v := 0) hx hb dX26_areAlike_39 (by decide) ?_
      exact r_zret X hR dX26_areAlike_40 hw
    · have hw := hw.2 c6
      refine r_aload_n X dX26_areAlike_20 rfl (lv_at hl 0 rfl) ?_
      refine r_gR X hR fk_X26_21 dX26_areAlike_21 hw (fun x7 hw => ?_)
      refine lv_iload_n hx hb dX26_areAlike_24 rfl (lv_at hl 1 rfl) ?_
      refine r_iald X hR dX26_areAlike_25 hw (fun x8 hw => ?_)
      refine r_aload_n X dX26_areAlike_26 rfl (lv_at hl 0 rfl) ?_
      refine r_gR X hR fk_X26_21 dX26_areAlike_27 hw (fun x9 hw => ?_)
      refine lv_iload_n hx hb dX26_areAlike_30 rfl (lv_at hl 2 rfl) ?_
      refine r_iald X hR dX26_areAlike_31 hw (fun x10 hw => ?_)
      refine lv_icmp_ne (tgt := 39) hx hb dX26_areAlike_32 (by decide) (fun c11 => ?_) (fun c11 => ?_)
      · have hw := hw.1 c11
        refine lv_iconst (v := 0) hx hb dX26_areAlike_39 (by decide) ?_
        exact r_zret X hR dX26_areAlike_40 hw
      · have hw := hw.2 c11
        refine lv_iconst (v := 1) hx hb dX26_areAlike_35 (by decide) ?_
        refine lv_goto (tgt := 40) hx hb dX26_areAlike_36 (by decide) ?_
        exact r_zret X hR dX26_areAlike_40 hw
theorem c_X8_init (l : Launch) (g : GT) (v0 : Option Nat) : CT qV l yX8_init (ws_ yX8_init cX8_init 1 none) 1 g [va_rf v0] (fun K E h => w_X8_init g v0 K E h) := by
  refine CT_of (lv := [(0, va_rf v0)]) (by decide +kernel) (by simp [lg_sl, cat_rf, cat_int, cat_long]) (by simp [lv_args, cat_rf, cat_int, cat_long]) (fun h0 K E p e s m args below meth c H locs cells slots ls X hxt hmn hw hR hl => ?_)
  have hx := X.hx
  have hb := X.hb
  unfold w_X8_init at hw
  refine r_aload_n X dX8_init_0 rfl (lv_at hl 0 rfl) ?_
  obtain ⟨z1, hw⟩ := hw
  refine r_objInit X hl.1 z1 q1547 q158 q159 (by decide) (cat4 (Nat.le_of_ble_eq_true rfl)) dX8_init_1 ?_
  refine r_aload_n X dX8_init_4 rfl (lv_at hl 0 rfl) ?_
  refine lv_iconst (v := (-1)) hx hb dX8_init_5 (by decide) ?_
  refine r_put X hR fp_X8_9 (Or.inl fn_X8_9) (nf_int _) dX8_init_6 hw (fun H locs h hR hw => ?_)
  refine r_aload_n X dX8_init_9 rfl (lv_at hl 0 rfl) ?_
  refine lv_sipush (v := 1000) hx hb dX8_init_10 (by decide) ?_
  refine r_newa X hR (atype := .byte) (t := 1) q239 (by decide) rfl dX8_init_13 hw (fun H cells slots x2 h hR hw => ?_)
  refine r_put X hR fp_X8_13 (Or.inr hmn) (nf_arr _ _) dX8_init_15 hw (fun H locs h hR hw => ?_)
  refine r_aload_n X dX8_init_18 rfl (lv_at hl 0 rfl) ?_
  refine lv_bipush (v := 11) hx hb dX8_init_19 (by decide) ?_
  refine r_newa X hR (atype := .int) (t := 0) q301 (by decide) rfl dX8_init_21 hw (fun H cells slots x3 h hR hw => ?_)
  refine r_put X hR fp_X8_17 (Or.inr hmn) (nf_arr _ _) dX8_init_23 hw (fun H locs h hR hw => ?_)
  refine r_aload_n X dX8_init_26 rfl (lv_at hl 0 rfl) ?_
  refine lv_bipush (v := 11) hx hb dX8_init_27 (by decide) ?_
  refine r_newa X hR (atype := .int) (t := 0) q301 (by decide) rfl dX8_init_29 hw (fun H cells slots x4 h hR hw => ?_)
  refine r_put X hR fp_X8_21 (Or.inr hmn) (nf_arr _ _) dX8_init_31 hw (fun H locs h hR hw => ?_)
  refine r_aload_n X dX8_init_34 rfl (lv_at hl 0 rfl) ?_
  refine lv_sipush (v := 176) hx hb dX8_init_35 (by decide) ?_
  refine r_newa X hR (atype := .int) (t := 0) q301 (by decide) rfl dX8_init_38 hw (fun H cells slots x5 h hR hw => ?_)
  refine r_put X hR fp_X8_24 (Or.inr hmn) (nf_arr _ _) dX8_init_40 hw (fun H locs h hR hw => ?_)
  refine r_aload_n X dX8_init_43 rfl (lv_at hl 0 rfl) ?_
  refine lv_bipush (v := 33) hx hb dX8_init_44 (by decide) ?_
  refine r_newa X hR (atype := .int) (t := 0) q301 (by decide) rfl dX8_init_46 hw (fun H cells slots x6 h hR hw => ?_)
  refine r_put X hR fp_X8_27 (Or.inr hmn) (nf_arr _ _) dX8_init_48 hw (fun H locs h hR hw => ?_)
  refine r_aload_n X dX8_init_51 rfl (lv_at hl 0 rfl) ?_
  refine lv_iconst (v := 3) hx hb dX8_init_52 (by decide) ?_
  refine r_newa X hR (atype := .int) (t := 0) q301 (by decide) rfl dX8_init_53 hw (fun H cells slots x7 h hR hw => ?_)
  refine r_put X hR fp_X8_30 (Or.inr hmn) (nf_arr _ _) dX8_init_55 hw (fun H locs h hR hw => ?_)
  refine r_aload_n X dX8_init_58 rfl (lv_at hl 0 rfl) ?_
  refine lv_iconst (v := 3) hx hb dX8_init_59 (by decide) ?_
  refine r_newa X hR (atype := .int) (t := 0) q301 (by decide) rfl dX8_init_60 hw (fun H cells slots x8 h hR hw => ?_)
  refine r_put X hR fp_X8_33 (Or.inr hmn) (nf_arr _ _) dX8_init_62 hw (fun H locs h hR hw => ?_)
  refine r_aload_n X dX8_init_65 rfl (lv_at hl 0 rfl) ?_
  refine lv_bipush (v := 6) hx hb dX8_init_66 (by decide) ?_
  refine r_newa X hR (atype := .int) (t := 0) q301 (by decide) rfl dX8_init_68 hw (fun H cells slots x9 h hR hw => ?_)
  refine r_put X hR fp_X8_36 (Or.inr hmn) (nf_arr _ _) dX8_init_70 hw (fun H locs h hR hw => ?_)
  refine r_aload_n X dX8_init_73 rfl (lv_at hl 0 rfl) ?_
  refine lv_bipush (v := 6) hx hb dX8_init_74 (by decide) ?_
  refine r_newa X hR (atype := .int) (t := 0) q301 (by decide) rfl dX8_init_76 hw (fun H cells slots x10 h hR hw => ?_)
  refine r_put X hR fp_X8_39 (Or.inr hmn) (nf_arr _ _) dX8_init_78 hw (fun H locs h hR hw => ?_)
  refine r_aload_n X dX8_init_81 rfl (lv_at hl 0 rfl) ?_
  refine lv_iconst (v := 5) hx hb dX8_init_82 (by decide) ?_
  refine r_newa X hR (atype := .int) (t := 0) q301 (by decide) rfl dX8_init_83 hw (fun H cells slots x11 h hR hw => ?_)
  refine r_put X hR fp_X8_42 (Or.inr hmn) (nf_arr _ _) dX8_init_85 hw (fun H locs h hR hw => ?_)
  exact r_vret X hR rfl dX8_init_88 hw
theorem c_X8_thrown (l : Launch) (g : GT) (v0 : Option Nat) : CT qI l yX8_thrown (ws_ yX8_thrown cX8_thrown 1 (Option.some Jvm.ClassFile.FieldType.int)) 1 g [va_rf v0] (fun K E h => w_X8_thrown g v0 K E h) := by
  refine CT_of (lv := [(0, va_rf v0)]) (by decide +kernel) (by simp [lg_sl, cat_rf, cat_int, cat_long]) (by simp [lv_args, cat_rf, cat_int, cat_long]) (fun h0 K E p e s m args below meth c H locs cells slots ls X hxt hmn hw hR hl => ?_)
  have hx := X.hx
  have hb := X.hb
  unfold w_X8_thrown at hw
  refine r_aload_n X dX8_thrown_0 rfl (lv_at hl 0 rfl) ?_
  refine r_gI X hR fk_X8_45 dX8_thrown_1 hw (fun x1 hw => ?_)
  exact r_iret X hR dX8_thrown_4 hw
theorem t_X8_feed_J76 {p : Program} {l : Launch} {e : Env} {s : State} {m : MethodId} {args : Array Value} {below : List Frame} {meth : Method} {c : Code} {g : GT} {h0 : AH} {v0 : Option Nat} {v1 : Int32} {v2 : Int32} {v3 : Int32} {v4 : Int32} {v5 : Int32} {v6 : Int32} {s0 : Int32} {K : Int32 → AH → Prop} {E : Nat → AH → Prop} {L23 : Int32 → AH → Prop} {h : AH} {H : Heap} {locs : List Loc} {cells slots : Nat} {ls : Array Slot} (X : Cx g h0 p s m args meth c RX8 cX8_feed 8 (Option.some Jvm.ClassFile.FieldType.int)) (k23 : ∀ {v6' : Int32} {h : AH} {H : Heap} {locs : List Loc} {cells slots : Nat} {ls : Array Slot}, L23 v6' h → HS g s h H locs → lv_has ls 8 [(0, va_rf v0), (1, .int v1), (2, .int v2), (3, .int v3), (4, .int v4), (5, .int v5), (6, .int (v6'))] → W p l e (RM 1 h0) s m args below meth c H locs cells slots (MQT below g (qI K) E args s h0) (F0 m 23 ls [])) (hw : w_X8_feed_J76 g v0 v1 v2 v3 v4 v5 v6 s0 K E L23 h) (hR : HS g s h H locs) (hl : lv_has ls 8 [(0, va_rf v0), (1, .int v1), (2, .int v2), (3, .int v3), (4, .int v4), (5, .int v5), (6, .int v6)]) : W p l e (RM 1 h0) s m args below meth c H locs cells slots (MQT below g (qI K) E args s h0) (F0 m 76 ls [.int s0]) := by
  have hx := X.hx
  have hb := X.hb
  unfold w_X8_feed_J76 at hw
  refine lv_istore (i := 7) (lv' := [(7, .int s0), (0, va_rf v0), (1, .int v1), (2, .int v2), (3, .int v3), (4, .int v4), (5, .int v5), (6, .int v6)]) hx hb dX8_feed_76 hl (by decide) rfl (fun ls hl => ?_)
  refine r_aload_n X dX8_feed_78 rfl (lv_at hl 1 rfl) ?_
  refine r_gR X hR fk_X8_13 dX8_feed_79 hw (fun x9 hw => ?_)
  refine r_aload_n X dX8_feed_82 rfl (lv_at hl 1 rfl) ?_
  refine r_gI X hR fk_X8_309 dX8_feed_83 hw (fun x10 hw => ?_)
  refine lv_iload hx hb dX8_feed_86 (lv_at hl 0 rfl) ?_
  refine lv_bipush (v := 24) hx hb dX8_feed_88 (by decide) ?_
  refine lv_bipush (v := 8) hx hb dX8_feed_90 (by decide) ?_
  refine lv_iload hx hb dX8_feed_92 (lv_at hl 7 rfl) ?_
  refine lv_iconst (v := 4) hx hb dX8_feed_94 (by decide) ?_
  refine lv_irem hx hb dX8_feed_95 (by decide) ?_
  refine lv_imul hx hb dX8_feed_96 ?_
  refine lv_isub hx hb dX8_feed_97 ?_
  refine lv_ishr hx hb dX8_feed_98 ?_
  refine lv_i2b hx hb dX8_feed_99 rfl ?_
  refine r_bast X hR dX8_feed_100 hw (fun H locs h hR hw => ?_)
  refine r_aload_n X dX8_feed_101 rfl (lv_at hl 1 rfl) ?_
  refine lv_dup hx hb dX8_feed_102 (cat_rf _) ?_
  refine r_gI X hR fk_X8_309 dX8_feed_103 hw (fun x11 hw => ?_)
  refine lv_iconst (v := 1) hx hb dX8_feed_106 (by decide) ?_
  refine lv_iadd hx hb dX8_feed_107 ?_
  refine r_put X hR fp_X8_309 (Or.inl fn_X8_309) (nf_int _) dX8_feed_108 hw (fun H locs h hR hw => ?_)
  refine r_iinc X (k := 7) (v := (v6 + 1)) (lv' := fun x12 => [(6, .int x12), (7, .int s0), (0, va_rf v0), (1, .int v1), (2, .int v2), (3, .int v3), (4, .int v4), (5, .int v5)]) dX8_feed_111 hl rfl rfl (by decide) hw (fun _ => rfl) (fun x12 hw ls hl => ?_)
  refine lv_goto (tgt := 23) hx hb dX8_feed_114 (by decide) ?_
  exact k23 hw hR (lv_sub hl [2, 3, 4, 5, 6, 7, 0] rfl)
theorem t_X8_feed_L23 {p : Program} {l : Launch} {e : Env} {s : State} {m : MethodId} {args : Array Value} {below : List Frame} {meth : Method} {c : Code} {g : GT} {h0 : AH} {v0 : Option Nat} {v1 : Int32} {v2 : Int32} {v3 : Int32} {v4 : Int32} {v5 : Int32} {K : Int32 → AH → Prop} {E : Nat → AH → Prop} (X : Cx g h0 p s m args meth c RX8 cX8_feed 8 (Option.some Jvm.ClassFile.FieldType.int))  : ∀ (n : Nat) {v6 : Int32} {h : AH} {H : Heap} {locs : List Loc} {cells slots : Nat} {ls : Array Slot}, LpN1 (w_X8_feed_L23 g v0 v1 v2 v3 v4 v5 K E) n v6 h → HS g s h H locs → lv_has ls 8 [(0, va_rf v0), (1, .int v1), (2, .int v2), (3, .int v3), (4, .int v4), (5, .int v5), (6, .int v6)] → W p l e (RM 1 h0) s m args below meth c H locs cells slots (MQT below g (qI K) E args s h0) (F0 m 23 ls []) := by
  have hx := X.hx
  have hb := X.hb
  intro n
  induction n with
  | zero =>
    intro v6 h H locs cells slots ls hw
    exact hw.elim
  | succ n k23 =>
    intro v6 h H locs cells slots ls hw hR hl
    have hw : w_X8_feed_L23 g v0 v1 v2 v3 v4 v5 K E (LpN1 (w_X8_feed_L23 g v0 v1 v2 v3 v4 v5 K E) n) v6 h := hw
    unfold w_X8_feed_L23 at hw
    refine lv_iload hx hb dX8_feed_23 (lv_at hl 6 rfl) ?_
    refine lv_bipush (v := 20) hx hb dX8_feed_25 (by decide) ?_
    refine lv_icmp_ge (tgt := 117) hx hb dX8_feed_27 (by decide) (fun c3 => ?_) (fun c3 => ?_)
    · have hw := hw.1 c3
      refine r_aload_n X dX8_feed_117 rfl (lv_at hl 0 rfl) ?_
      refine r_gI X hR fk_X8_309 dX8_feed_118 hw (fun x4 hw => ?_)
      exact r_iret X hR dX8_feed_121 hw
    · have hw := hw.2 c3
      refine lv_iload hx hb dX8_feed_30 (lv_at hl 6 rfl) ?_
      refine lv_iconst (v := 4) hx hb dX8_feed_32 (by decide) ?_
      refine lv_icmp_ge (tgt := 40) hx hb dX8_feed_33 (by decide) (fun c5 => ?_) (fun c5 => ?_)
      · have hw := hw.1 c5
        refine lv_iload hx hb dX8_feed_40 (lv_at hl 6 rfl) ?_
        refine lv_bipush (v := 8) hx hb dX8_feed_42 (by decide) ?_
        refine lv_icmp_ge (tgt := 51) hx hb dX8_feed_44 (by decide) (fun c6 => ?_) (fun c6 => ?_)
        · have hw := hw.1 c6
          refine lv_iload hx hb dX8_feed_51 (lv_at hl 6 rfl) ?_
          refine lv_bipush (v := 12) hx hb dX8_feed_53 (by decide) ?_
          refine lv_icmp_ge (tgt := 62) hx hb dX8_feed_55 (by decide) (fun c7 => ?_) (fun c7 => ?_)
          · have hw := hw.1 c7
            refine lv_iload hx hb dX8_feed_62 (lv_at hl 6 rfl) ?_
            refine lv_bipush (v := 16) hx hb dX8_feed_64 (by decide) ?_
            refine lv_icmp_ge (tgt := 74) hx hb dX8_feed_66 (by decide) (fun c8 => ?_) (fun c8 => ?_)
            · have hw := hw.1 c8
              refine lv_iload hx hb dX8_feed_74 (lv_at hl 5 rfl) ?_
              exact t_X8_feed_J76 X k23 hw hR (lv_sub hl [0, 1, 2, 3, 4, 5, 6] rfl)
            · have hw := hw.2 c8
              refine lv_iload hx hb dX8_feed_69 (lv_at hl 4 rfl) ?_
              refine lv_goto (tgt := 76) hx hb dX8_feed_71 (by decide) ?_
              exact t_X8_feed_J76 X k23 hw hR (lv_sub hl [0, 1, 2, 3, 4, 5, 6] rfl)
          · have hw := hw.2 c7
            refine lv_iload_n hx hb dX8_feed_58 rfl (lv_at hl 3 rfl) ?_
            refine lv_goto (tgt := 76) hx hb dX8_feed_59 (by decide) ?_
            exact t_X8_feed_J76 X k23 hw hR (lv_sub hl [0, 1, 2, 3, 4, 5, 6] rfl)
        · have hw := hw.2 c6
          refine lv_iload_n hx hb dX8_feed_47 rfl (lv_at hl 2 rfl) ?_
          refine lv_goto (tgt := 76) hx hb dX8_feed_48 (by decide) ?_
          exact t_X8_feed_J76 X k23 hw hR (lv_sub hl [0, 1, 2, 3, 4, 5, 6] rfl)
      · have hw := hw.2 c5
        refine lv_iload_n hx hb dX8_feed_36 rfl (lv_at hl 1 rfl) ?_
        refine lv_goto (tgt := 76) hx hb dX8_feed_37 (by decide) ?_
        exact t_X8_feed_J76 X k23 hw hR (lv_sub hl [0, 1, 2, 3, 4, 5, 6] rfl)
theorem c_X8_feed (l : Launch) (g : GT) (v0 : Option Nat) (v1 : Int32) (v2 : Int32) (v3 : Int32) (v4 : Int32) (v5 : Int32) : CT qI l yX8_feed (ws_ yX8_feed cX8_feed 8 (Option.some Jvm.ClassFile.FieldType.int)) 1 g [va_rf v0, .int v1, .int v2, .int v3, .int v4, .int v5] (fun K E h => w_X8_feed g v0 v1 v2 v3 v4 v5 K E h) := by
  refine CT_of (lv := [(0, va_rf v0), (1, .int v1), (2, .int v2), (3, .int v3), (4, .int v4), (5, .int v5)]) (by decide +kernel) (by simp [lg_sl, cat_rf, cat_int, cat_long]) (by simp [lv_args, cat_rf, cat_int, cat_long]) (fun h0 K E p e s m args below meth c H locs cells slots ls X hxt hmn hw hR hl => ?_)
  have hx := X.hx
  have hb := X.hb
  unfold w_X8_feed at hw
  refine r_aload_n X dX8_feed_0 rfl (lv_at hl 0 rfl) ?_
  refine lv_iconst (v := 0) hx hb dX8_feed_1 (by decide) ?_
  refine r_put X hR fp_X8_45 (Or.inl fn_X8_45) (nf_int _) dX8_feed_2 hw (fun H locs h hR hw => ?_)
  refine r_aload_n X dX8_feed_5 rfl (lv_at hl 0 rfl) ?_
  refine r_gI X hR fk_X8_309 dX8_feed_6 hw (fun x1 hw => ?_)
  refine lv_bipush (v := 20) hx hb dX8_feed_9 (by decide) ?_
  refine lv_iadd hx hb dX8_feed_11 ?_
  refine lv_sipush (v := 1000) hx hb dX8_feed_12 (by decide) ?_
  refine lv_icmp_le (tgt := 20) hx hb dX8_feed_15 (by decide) (fun c2 => ?_) (fun c2 => ?_)
  · have hw := hw.1 c2
    refine lv_iconst (v := 0) hx hb dX8_feed_20 (by decide) ?_
    refine lv_istore (i := 6) (lv' := [(6, .int 0), (0, va_rf v0), (1, .int v1), (2, .int v2), (3, .int v3), (4, .int v4), (5, .int v5)]) hx hb dX8_feed_21 hl (by decide) rfl (fun ls hl => ?_)
    obtain ⟨n, hw⟩ := hw
    exact t_X8_feed_L23 X  n hw hR (lv_sub hl [1, 2, 3, 4, 5, 6, 0] rfl)
  · have hw := hw.2 c2
    refine lv_iconst (v := (-1)) hx hb dX8_feed_18 (by decide) ?_
    exact r_iret X hR dX8_feed_19 hw
theorem c_X8_refused (l : Launch) (g : GT) (v0 : Option Nat) (v1 : Int32) : CT qI l yX8_refused (ws_ yX8_refused cX8_refused 2 (Option.some Jvm.ClassFile.FieldType.int)) 1 g [va_rf v0, .int v1] (fun K E h => w_X8_refused g v0 v1 K E h) := by
  refine CT_of (lv := [(0, va_rf v0), (1, .int v1)]) (by decide +kernel) (by simp [lg_sl, cat_rf, cat_int, cat_long]) (by simp [lv_args, cat_rf, cat_int, cat_long]) (fun h0 K E p e s m args below meth c H locs cells slots ls X hxt hmn hw hR hl => ?_)
  have hx := X.hx
  have hb := X.hb
  unfold w_X8_refused at hw
  refine r_aload_n X dX8_refused_0 rfl (lv_at hl 0 rfl) ?_
  refine lv_iload_n hx hb dX8_refused_1 rfl (lv_at hl 1 rfl) ?_
  refine r_put X hR fp_X8_48 (Or.inl fn_X8_48) (nf_int _) dX8_refused_2 hw (fun H locs h hR hw => ?_)
  refine r_aload_n X dX8_refused_5 rfl (lv_at hl 0 rfl) ?_
  refine lv_iconst (v := (-1)) hx hb dX8_refused_6 (by decide) ?_
  refine r_put X hR fp_X8_9 (Or.inl fn_X8_9) (nf_int _) dX8_refused_7 hw (fun H locs h hR hw => ?_)
  refine lv_iconst (v := (-1)) hx hb dX8_refused_10 (by decide) ?_
  exact r_iret X hR dX8_refused_11 hw
theorem c_X8_byteAt (l : Launch) (g : GT) (v0 : Option Nat) (v1 : Int32) : CT qI l yX8_byteAt (ws_ yX8_byteAt cX8_byteAt 2 (Option.some Jvm.ClassFile.FieldType.int)) 1 g [va_rf v0, .int v1] (fun K E h => w_X8_byteAt g v0 v1 K E h) := by
  refine CT_of (lv := [(0, va_rf v0), (1, .int v1)]) (by decide +kernel) (by simp [lg_sl, cat_rf, cat_int, cat_long]) (by simp [lv_args, cat_rf, cat_int, cat_long]) (fun h0 K E p e s m args below meth c H locs cells slots ls X hxt hmn hw hR hl => ?_)
  have hx := X.hx
  have hb := X.hb
  unfold w_X8_byteAt at hw
  refine lv_iload_n hx hb dX8_byteAt_0 rfl (lv_at hl 1 rfl) ?_
  refine r_aload_n X dX8_byteAt_1 rfl (lv_at hl 0 rfl) ?_
  refine r_gI X hR fk_X8_62 dX8_byteAt_2 hw (fun x1 hw => ?_)
  refine lv_icmp_ge (tgt := 21) hx hb dX8_byteAt_5 (by decide) (fun c2 => ?_) (fun c2 => ?_)
  · have hw := hw.1 c2
    refine lv_iconst (v := (-1)) hx hb dX8_byteAt_21 (by decide) ?_
    exact r_iret X hR dX8_byteAt_22 hw
  · have hw := hw.2 c2
    refine r_aload_n X dX8_byteAt_8 rfl (lv_at hl 0 rfl) ?_
    refine r_gR X hR fk_X8_13 dX8_byteAt_9 hw (fun x3 hw => ?_)
    refine lv_iload_n hx hb dX8_byteAt_12 rfl (lv_at hl 1 rfl) ?_
    refine r_bald X hR dX8_byteAt_13 hw (fun x4 hw => ?_)
    refine lv_sipush (v := 255) hx hb dX8_byteAt_14 (by decide) ?_
    refine lv_iand hx hb dX8_byteAt_17 ?_
    refine lv_goto (tgt := 22) hx hb dX8_byteAt_18 (by decide) ?_
    exact r_iret X hR dX8_byteAt_22 hw
theorem c_X8_isLetter (l : Launch) (g : GT) (v0 : Int32) : CT qI l yX8_isLetter (ws_ yX8_isLetter cX8_isLetter 1 (Option.some Jvm.ClassFile.FieldType.boolean)) 1 g [.int v0] (fun K E h => w_X8_isLetter g v0 K E h) := by
  refine CT_of (lv := [(0, .int v0)]) (by decide +kernel) (by simp [lg_sl, cat_rf, cat_int, cat_long]) (by simp [lv_args, cat_rf, cat_int, cat_long]) (fun h0 K E p e s m args below meth c H locs cells slots ls X hxt hmn hw hR hl => ?_)
  have hx := X.hx
  have hb := X.hb
  unfold w_X8_isLetter at hw
  refine lv_iload_n hx hb dX8_isLetter_0 rfl (lv_at hl 0 rfl) ?_
  refine lv_bipush (v := 97) hx hb dX8_isLetter_1 (by decide) ?_
  refine lv_icmp_lt (tgt := 16) hx hb dX8_isLetter_3 (by decide) (fun c1 => ?_) (fun c1 => ?_)
  · have hw := hw.1 c1
    refine lv_iconst (v := 0) hx hb dX8_isLetter_16 (by decide) ?_
    exact r_zret X hR dX8_isLetter_17 hw
  · have hw := hw.2 c1
    refine lv_iload_n hx hb dX8_isLetter_6 rfl (lv_at hl 0 rfl) ?_
    refine lv_bipush (v := 122) hx hb dX8_isLetter_7 (by decide) ?_
    refine lv_icmp_gt (tgt := 16) hx hb dX8_isLetter_9 (by decide) (fun c2 => ?_) (fun c2 => ?_)
    · have hw := hw.1 c2
      refine lv_iconst (v := 0) hx hb dX8_isLetter_16 (by decide) ?_
      exact r_zret X hR dX8_isLetter_17 hw
    · have hw := hw.2 c2
      refine lv_iconst (v := 1) hx hb dX8_isLetter_12 (by decide) ?_
      refine lv_goto (tgt := 17) hx hb dX8_isLetter_13 (by decide) ?_
      exact r_zret X hR dX8_isLetter_17 hw
theorem c_X8_isDigit (l : Launch) (g : GT) (v0 : Int32) : CT qI l yX8_isDigit (ws_ yX8_isDigit cX8_isDigit 1 (Option.some Jvm.ClassFile.FieldType.boolean)) 1 g [.int v0] (fun K E h => w_X8_isDigit g v0 K E h) := by
  refine CT_of (lv := [(0, .int v0)]) (by decide +kernel) (by simp [lg_sl, cat_rf, cat_int, cat_long]) (by simp [lv_args, cat_rf, cat_int, cat_long]) (fun h0 K E p e s m args below meth c H locs cells slots ls X hxt hmn hw hR hl => ?_)
  have hx := X.hx
  have hb := X.hb
  unfold w_X8_isDigit at hw
  refine lv_iload_n hx hb dX8_isDigit_0 rfl (lv_at hl 0 rfl) ?_
  refine lv_bipush (v := 48) hx hb dX8_isDigit_1 (by decide) ?_
  refine lv_icmp_lt (tgt := 16) hx hb dX8_isDigit_3 (by decide) (fun c1 => ?_) (fun c1 => ?_)
  · have hw := hw.1 c1
    refine lv_iconst (v := 0) hx hb dX8_isDigit_16 (by decide) ?_
    exact r_zret X hR dX8_isDigit_17 hw
  · have hw := hw.2 c1
    refine lv_iload_n hx hb dX8_isDigit_6 rfl (lv_at hl 0 rfl) ?_
    refine lv_bipush (v := 57) hx hb dX8_isDigit_7 (by decide) ?_
    refine lv_icmp_gt (tgt := 16) hx hb dX8_isDigit_9 (by decide) (fun c2 => ?_) (fun c2 => ?_)
    · have hw := hw.1 c2
      refine lv_iconst (v := 0) hx hb dX8_isDigit_16 (by decide) ?_
      exact r_zret X hR dX8_isDigit_17 hw
    · have hw := hw.2 c2
      refine lv_iconst (v := 1) hx hb dX8_isDigit_12 (by decide) ?_
      refine lv_goto (tgt := 17) hx hb dX8_isDigit_13 (by decide) ?_
      exact r_zret X hR dX8_isDigit_17 hw
theorem t_X8_goesOn_J215 {p : Program} {l : Launch} {e : Env} {s : State} {m : MethodId} {args : Array Value} {below : List Frame} {meth : Method} {c : Code} {g : GT} {h0 : AH} {v0 : Option Nat} {v2 : Int32} {K : Unit → AH → Prop} {E : Nat → AH → Prop} {L173 : Int32 → AH → Prop} {h : AH} {H : Heap} {locs : List Loc} {cells slots : Nat} {ls : Array Slot} (X : Cx g h0 p s m args meth c RX8 cX8_goesOn 3 none) (k173 : ∀ {v2' : Int32} {h : AH} {H : Heap} {locs : List Loc} {cells slots : Nat} {ls : Array Slot}, L173 v2' h → HS g s h H locs → lv_has ls 3 [(0, va_rf v0), (2, .int (v2'))] → W p l e (RM 2 h0) s m args below meth c H locs cells slots (MQT below g (qV K) E args s h0) (F0 m 173 ls [])) (hw : w_X8_goesOn_J215 g v0 v2 K E L173 h) (hR : HS g s h H locs) (hl : lv_has ls 3 [(0, va_rf v0), (2, .int v2)]) : W p l e (RM 2 h0) s m args below meth c H locs cells slots (MQT below g (qV K) E args s h0) (F0 m 215 ls []) := by
  have hx := X.hx
  have hb := X.hb
  unfold w_X8_goesOn_J215 at hw
  refine r_iinc X (k := 1) (v := (v2 + 1)) (lv' := fun x22 => [(2, .int x22), (0, va_rf v0)]) dX8_goesOn_215 hl rfl rfl (by decide) hw (fun _ => rfl) (fun x22 hw ls hl => ?_)
  refine r_aload_n X dX8_goesOn_218 rfl (lv_at hl 1 rfl) ?_
  refine lv_dup hx hb dX8_goesOn_219 (cat_rf _) ?_
  refine r_gI X hR fk_X8_80 dX8_goesOn_220 hw (fun x23 hw => ?_)
  refine lv_iconst (v := 1) hx hb dX8_goesOn_223 (by decide) ?_
  refine lv_iadd hx hb dX8_goesOn_224 ?_
  refine r_put X hR fp_X8_80 (Or.inl fn_X8_80) (nf_int _) dX8_goesOn_225 hw (fun H locs h hR hw => ?_)
  refine lv_goto (tgt := 173) hx hb dX8_goesOn_228 (by decide) ?_
  exact k173 hw hR (lv_sub hl [1, 0] rfl)
theorem t_X8_goesOn_L173 {p : Program} {l : Launch} {e : Env} {s : State} {m : MethodId} {args : Array Value} {below : List Frame} {meth : Method} {c : Code} {g : GT} {h0 : AH} {v0 : Option Nat} {K : Unit → AH → Prop} {E : Nat → AH → Prop} (X : Cx g h0 p s m args meth c RX8 cX8_goesOn 3 none)  : ∀ (n : Nat) {v2 : Int32} {h : AH} {H : Heap} {locs : List Loc} {cells slots : Nat} {ls : Array Slot}, LpN1 (w_X8_goesOn_L173 g v0 K E) n v2 h → HS g s h H locs → lv_has ls 3 [(0, va_rf v0), (2, .int v2)] → W p l e (RM 2 h0) s m args below meth c H locs cells slots (MQT below g (qV K) E args s h0) (F0 m 173 ls []) := by
  have hx := X.hx
  have hb := X.hb
  intro n
  induction n with
  | zero =>
    intro v2 h H locs cells slots ls hw
    exact hw.elim
  | succ n k173 =>
    intro v2 h H locs cells slots ls hw hR hl
    have hw : w_X8_goesOn_L173 g v0 K E (LpN1 (w_X8_goesOn_L173 g v0 K E) n) v2 h := hw
    unfold w_X8_goesOn_L173 at hw
    refine r_aload_n X dX8_goesOn_173 rfl (lv_at hl 0 rfl) ?_
    refine r_aload_n X dX8_goesOn_174 rfl (lv_at hl 0 rfl) ?_
    refine r_gI X hR fk_X8_80 dX8_goesOn_175 hw (fun x16 hw => ?_)
    refine r_callI X hR (c_V (ci := 8) (q := (RX8, TX8, 32)) X hR hl.1 (c_X8_byteAt l g v0 x16) (lw_V q1758 q1760 qs52 q125 q1761) rfl rfl mh_X8_byteAt rfl (by decide) (by decide) rfl (cat4 (Nat.le_of_ble_eq_true rfl)) dX8_goesOn_178 hw) (fun x17 h H locs cells slots hR hw => ?_)
    refine r_callI X hR (c_S X hR hl.1 (c_X8_isDigit l g x17) (lw_S q1766 q1767 q125 q1768) mh_X8_isDigit rfl (by decide) (by decide) rfl (cat4 (Nat.le_of_ble_eq_true rfl)) dX8_goesOn_181 hw) (fun x18 h H locs cells slots hR hw => ?_)
    refine lv_if_eq (tgt := 231) hx hb dX8_goesOn_184 (by decide) (fun c19 => ?_) (fun c19 => ?_)
    · have hw := hw.1 c19
      refine lv_iload_n hx hb dX8_goesOn_231 rfl (lv_at hl 1 rfl) ?_
      refine lv_iconst (v := 2) hx hb dX8_goesOn_232 (by decide) ?_
      refine lv_icmp_gt (tgt := 265) hx hb dX8_goesOn_233 (by decide) (fun c20 => ?_) (fun c20 => ?_)
      · have hw := hw.1 c20
        exact r_vret X hR rfl dX8_goesOn_265 hw
      · have hw := hw.2 c20
        refine r_aload_n X dX8_goesOn_236 rfl (lv_at hl 0 rfl) ?_
        refine lv_iconst (v := 3) hx hb dX8_goesOn_237 (by decide) ?_
        refine r_put X hR fp_X8_77 (Or.inl fn_X8_77) (nf_int _) dX8_goesOn_238 hw (fun H locs h hR hw => ?_)
        refine lv_goto (tgt := 265) hx hb dX8_goesOn_241 (by decide) ?_
        exact r_vret X hR rfl dX8_goesOn_265 hw
    · have hw := hw.2 c19
      refine lv_iload_n hx hb dX8_goesOn_187 rfl (lv_at hl 1 rfl) ?_
      refine lv_iconst (v := 2) hx hb dX8_goesOn_188 (by decide) ?_
      refine lv_icmp_ge (tgt := 215) hx hb dX8_goesOn_189 (by decide) (fun c21 => ?_) (fun c21 => ?_)
      · have hw := hw.1 c21
        exact t_X8_goesOn_J215 X k173 hw hR (lv_sub hl [0, 1] rfl)
      · have hw := hw.2 c21
        refine r_aload_n X dX8_goesOn_192 rfl (lv_at hl 0 rfl) ?_
        refine lv_bipush (v := 10) hx hb dX8_goesOn_193 (by decide) ?_
        refine r_aload_n X dX8_goesOn_195 rfl (lv_at hl 0 rfl) ?_
        refine r_gI X hR fk_X8_100 dX8_goesOn_196 hw (fun x24 hw => ?_)
        refine lv_imul hx hb dX8_goesOn_199 ?_
        refine r_aload_n X dX8_goesOn_200 rfl (lv_at hl 0 rfl) ?_
        refine r_aload_n X dX8_goesOn_201 rfl (lv_at hl 0 rfl) ?_
        refine r_gI X hR fk_X8_80 dX8_goesOn_202 hw (fun x25 hw => ?_)
        refine r_callI X hR (c_V (ci := 8) (q := (RX8, TX8, 32)) X hR hl.1 (c_X8_byteAt l g v0 x25) (lw_V q1758 q1760 qs52 q125 q1761) rfl rfl mh_X8_byteAt rfl (by decide) (by decide) rfl (cat4 (Nat.le_of_ble_eq_true rfl)) dX8_goesOn_205 hw) (fun x26 h H locs cells slots hR hw => ?_)
        refine lv_iadd hx hb dX8_goesOn_208 ?_
        refine lv_bipush (v := 48) hx hb dX8_goesOn_209 (by decide) ?_
        refine lv_isub hx hb dX8_goesOn_211 ?_
        refine r_put X hR fp_X8_100 (Or.inl fn_X8_100) (nf_int _) dX8_goesOn_212 hw (fun H locs h hR hw => ?_)
        exact t_X8_goesOn_J215 X k173 hw hR (lv_sub hl [0, 1] rfl)
theorem t_X8_goesOn_J131 {p : Program} {l : Launch} {e : Env} {s : State} {m : MethodId} {args : Array Value} {below : List Frame} {meth : Method} {c : Code} {g : GT} {h0 : AH} {v0 : Option Nat} {v2 : Int32} {K : Unit → AH → Prop} {E : Nat → AH → Prop} {L84 : Int32 → AH → Prop} {h : AH} {H : Heap} {locs : List Loc} {cells slots : Nat} {ls : Array Slot} (X : Cx g h0 p s m args meth c RX8 cX8_goesOn 3 none) (k84 : ∀ {v2' : Int32} {h : AH} {H : Heap} {locs : List Loc} {cells slots : Nat} {ls : Array Slot}, L84 v2' h → HS g s h H locs → lv_has ls 3 [(0, va_rf v0), (2, .int (v2'))] → W p l e (RM 2 h0) s m args below meth c H locs cells slots (MQT below g (qV K) E args s h0) (F0 m 84 ls [])) (hw : w_X8_goesOn_J131 g v0 v2 K E L84 h) (hR : HS g s h H locs) (hl : lv_has ls 3 [(0, va_rf v0), (2, .int v2)]) : W p l e (RM 2 h0) s m args below meth c H locs cells slots (MQT below g (qV K) E args s h0) (F0 m 131 ls []) := by
  have hx := X.hx
  have hb := X.hb
  unfold w_X8_goesOn_J131 at hw
  refine r_iinc X (k := 1) (v := (v2 + 1)) (lv' := fun x33 => [(2, .int x33), (0, va_rf v0)]) dX8_goesOn_131 hl rfl rfl (by decide) hw (fun _ => rfl) (fun x33 hw ls hl => ?_)
  refine r_aload_n X dX8_goesOn_134 rfl (lv_at hl 1 rfl) ?_
  refine lv_dup hx hb dX8_goesOn_135 (cat_rf _) ?_
  refine r_gI X hR fk_X8_80 dX8_goesOn_136 hw (fun x34 hw => ?_)
  refine lv_iconst (v := 1) hx hb dX8_goesOn_139 (by decide) ?_
  refine lv_iadd hx hb dX8_goesOn_140 ?_
  refine r_put X hR fp_X8_80 (Or.inl fn_X8_80) (nf_int _) dX8_goesOn_141 hw (fun H locs h hR hw => ?_)
  refine lv_goto (tgt := 84) hx hb dX8_goesOn_144 (by decide) ?_
  exact k84 hw hR (lv_sub hl [1, 0] rfl)
theorem t_X8_goesOn_L84 {p : Program} {l : Launch} {e : Env} {s : State} {m : MethodId} {args : Array Value} {below : List Frame} {meth : Method} {c : Code} {g : GT} {h0 : AH} {v0 : Option Nat} {K : Unit → AH → Prop} {E : Nat → AH → Prop} (X : Cx g h0 p s m args meth c RX8 cX8_goesOn 3 none)  : ∀ (n : Nat) {v2 : Int32} {h : AH} {H : Heap} {locs : List Loc} {cells slots : Nat} {ls : Array Slot}, LpN1 (w_X8_goesOn_L84 g v0 K E) n v2 h → HS g s h H locs → lv_has ls 3 [(0, va_rf v0), (2, .int v2)] → W p l e (RM 2 h0) s m args below meth c H locs cells slots (MQT below g (qV K) E args s h0) (F0 m 84 ls []) := by
  have hx := X.hx
  have hb := X.hb
  intro n
  induction n with
  | zero =>
    intro v2 h H locs cells slots ls hw
    exact hw.elim
  | succ n k84 =>
    intro v2 h H locs cells slots ls hw hR hl
    have hw : w_X8_goesOn_L84 g v0 K E (LpN1 (w_X8_goesOn_L84 g v0 K E) n) v2 h := hw
    unfold w_X8_goesOn_L84 at hw
    refine r_aload_n X dX8_goesOn_84 rfl (lv_at hl 0 rfl) ?_
    refine r_aload_n X dX8_goesOn_85 rfl (lv_at hl 0 rfl) ?_
    refine r_gI X hR fk_X8_80 dX8_goesOn_86 hw (fun x27 hw => ?_)
    refine r_callI X hR (c_V (ci := 8) (q := (RX8, TX8, 32)) X hR hl.1 (c_X8_byteAt l g v0 x27) (lw_V q1758 q1760 qs52 q125 q1761) rfl rfl mh_X8_byteAt rfl (by decide) (by decide) rfl (cat4 (Nat.le_of_ble_eq_true rfl)) dX8_goesOn_89 hw) (fun x28 h H locs cells slots hR hw => ?_)
    refine r_callI X hR (c_S X hR hl.1 (c_X8_isLetter l g x28) (lw_S q1762 q1763 q125 q1764) mh_X8_isLetter rfl (by decide) (by decide) rfl (cat4 (Nat.le_of_ble_eq_true rfl)) dX8_goesOn_92 hw) (fun x29 h H locs cells slots hR hw => ?_)
    refine lv_if_eq (tgt := 147) hx hb dX8_goesOn_95 (by decide) (fun c30 => ?_) (fun c30 => ?_)
    · have hw := hw.1 c30
      refine lv_iload_n hx hb dX8_goesOn_147 rfl (lv_at hl 1 rfl) ?_
      refine lv_bipush (v := 8) hx hb dX8_goesOn_148 (by decide) ?_
      refine lv_icmp_gt (tgt := 265) hx hb dX8_goesOn_150 (by decide) (fun c31 => ?_) (fun c31 => ?_)
      · have hw := hw.1 c31
        exact r_vret X hR rfl dX8_goesOn_265 hw
      · have hw := hw.2 c31
        refine r_aload_n X dX8_goesOn_153 rfl (lv_at hl 0 rfl) ?_
        refine lv_iconst (v := 2) hx hb dX8_goesOn_154 (by decide) ?_
        refine r_put X hR fp_X8_77 (Or.inl fn_X8_77) (nf_int _) dX8_goesOn_155 hw (fun H locs h hR hw => ?_)
        refine lv_goto (tgt := 265) hx hb dX8_goesOn_158 (by decide) ?_
        exact r_vret X hR rfl dX8_goesOn_265 hw
    · have hw := hw.2 c30
      refine lv_iload_n hx hb dX8_goesOn_98 rfl (lv_at hl 1 rfl) ?_
      refine lv_bipush (v := 8) hx hb dX8_goesOn_99 (by decide) ?_
      refine lv_icmp_ge (tgt := 131) hx hb dX8_goesOn_101 (by decide) (fun c32 => ?_) (fun c32 => ?_)
      · have hw := hw.1 c32
        exact t_X8_goesOn_J131 X k84 hw hR (lv_sub hl [0, 1] rfl)
      · have hw := hw.2 c32
        refine r_aload_n X dX8_goesOn_104 rfl (lv_at hl 0 rfl) ?_
        refine lv_ldc2 hx hb X.hown (X.hts _ q1765) dX8_goesOn_105 ?_
        refine r_aload_n X dX8_goesOn_108 rfl (lv_at hl 0 rfl) ?_
        refine r_gJ X hR fk_X8_93 dX8_goesOn_109 hw (fun x35 hw => ?_)
        refine lv_lmul hx hb dX8_goesOn_112 ?_
        refine r_aload_n X dX8_goesOn_113 rfl (lv_at hl 0 rfl) ?_
        refine r_aload_n X dX8_goesOn_114 rfl (lv_at hl 0 rfl) ?_
        refine r_gI X hR fk_X8_80 dX8_goesOn_115 hw (fun x36 hw => ?_)
        refine r_callI X hR (c_V (ci := 8) (q := (RX8, TX8, 32)) X hR hl.1 (c_X8_byteAt l g v0 x36) (lw_V q1758 q1760 qs52 q125 q1761) rfl rfl mh_X8_byteAt rfl (by decide) (by decide) rfl (cat4 (Nat.le_of_ble_eq_true rfl)) dX8_goesOn_118 hw) (fun x37 h H locs cells slots hR hw => ?_)
        refine lv_bipush (v := 97) hx hb dX8_goesOn_121 (by decide) ?_
        refine lv_isub hx hb dX8_goesOn_123 ?_
        refine lv_iconst (v := 1) hx hb dX8_goesOn_124 (by decide) ?_
        refine lv_iadd hx hb dX8_goesOn_125 ?_
        refine lv_i2l hx hb dX8_goesOn_126 rfl ?_
        refine lv_ladd hx hb dX8_goesOn_127 ?_
        refine r_put X hR fp_X8_93 (Or.inl fn_X8_93) (nf_long _) dX8_goesOn_128 hw (fun H locs h hR hw => ?_)
        exact t_X8_goesOn_J131 X k84 hw hR (lv_sub hl [0, 1] rfl)
theorem t_X8_goesOn_L9 {p : Program} {l : Launch} {e : Env} {s : State} {m : MethodId} {args : Array Value} {below : List Frame} {meth : Method} {c : Code} {g : GT} {h0 : AH} {v0 : Option Nat} {K : Unit → AH → Prop} {E : Nat → AH → Prop} (X : Cx g h0 p s m args meth c RX8 cX8_goesOn 3 none)  : ∀ (n : Nat) {h : AH} {H : Heap} {locs : List Loc} {cells slots : Nat} {ls : Array Slot}, LpN0 (w_X8_goesOn_L9 g v0 K E) n h → HS g s h H locs → lv_has ls 3 [(0, va_rf v0)] → W p l e (RM 2 h0) s m args below meth c H locs cells slots (MQT below g (qV K) E args s h0) (F0 m 9 ls []) := by
  have hx := X.hx
  have hb := X.hb
  intro n
  induction n with
  | zero =>
    intro h H locs cells slots ls hw
    exact hw.elim
  | succ n k9 =>
    intro h H locs cells slots ls hw hR hl
    have hw : w_X8_goesOn_L9 g v0 K E (LpN0 (w_X8_goesOn_L9 g v0 K E) n) h := hw
    unfold w_X8_goesOn_L9 at hw
    refine r_aload_n X dX8_goesOn_9 rfl (lv_at hl 0 rfl) ?_
    refine r_aload_n X dX8_goesOn_10 rfl (lv_at hl 0 rfl) ?_
    refine r_gI X hR fk_X8_80 dX8_goesOn_11 hw (fun x3 hw => ?_)
    refine r_callI X hR (c_V (ci := 8) (q := (RX8, TX8, 32)) X hR hl.1 (c_X8_byteAt l g v0 x3) (lw_V q1758 q1760 qs52 q125 q1761) rfl rfl mh_X8_byteAt rfl (by decide) (by decide) rfl (cat4 (Nat.le_of_ble_eq_true rfl)) dX8_goesOn_14 hw) (fun x4 h H locs cells slots hR hw => ?_)
    refine lv_bipush (v := 32) hx hb dX8_goesOn_17 (by decide) ?_
    refine lv_icmp_ne (tgt := 35) hx hb dX8_goesOn_19 (by decide) (fun c5 => ?_) (fun c5 => ?_)
    · have hw := hw.1 c5
      refine r_aload_n X dX8_goesOn_35 rfl (lv_at hl 0 rfl) ?_
      refine r_aload_n X dX8_goesOn_36 rfl (lv_at hl 0 rfl) ?_
      refine r_gI X hR fk_X8_80 dX8_goesOn_37 hw (fun x6 hw => ?_)
      refine r_put X hR fp_X8_86 (Or.inl fn_X8_86) (nf_int _) dX8_goesOn_40 hw (fun H locs h hR hw => ?_)
      refine r_aload_n X dX8_goesOn_43 rfl (lv_at hl 0 rfl) ?_
      refine lv_iconst (v := 0) hx hb dX8_goesOn_44 (by decide) ?_
      refine r_put X hR fp_X8_77 (Or.inl fn_X8_77) (nf_int _) dX8_goesOn_45 hw (fun H locs h hR hw => ?_)
      refine r_aload_n X dX8_goesOn_48 rfl (lv_at hl 0 rfl) ?_
      refine r_aload_n X dX8_goesOn_49 rfl (lv_at hl 0 rfl) ?_
      refine r_gI X hR fk_X8_80 dX8_goesOn_50 hw (fun x7 hw => ?_)
      refine r_callI X hR (c_V (ci := 8) (q := (RX8, TX8, 32)) X hR hl.1 (c_X8_byteAt l g v0 x7) (lw_V q1758 q1760 qs52 q125 q1761) rfl rfl mh_X8_byteAt rfl (by decide) (by decide) rfl (cat4 (Nat.le_of_ble_eq_true rfl)) dX8_goesOn_53 hw) (fun x8 h H locs cells slots hR hw => ?_)
      refine lv_istore_n (i := 1) (lv' := [(1, .int x8), (0, va_rf v0)]) hx hb dX8_goesOn_56 rfl hl (by decide) (by simp [cat_rf, cat_int, cat_long]) (fun ls hl => ?_)
      refine lv_iconst (v := 0) hx hb dX8_goesOn_57 (by decide) ?_
      refine lv_istore_n (i := 2) (lv' := [(2, .int 0), (1, .int x8), (0, va_rf v0)]) hx hb dX8_goesOn_58 rfl hl (by decide) rfl (fun ls hl => ?_)
      refine lv_iload_n hx hb dX8_goesOn_59 rfl (lv_at hl 1 rfl) ?_
      refine lv_iconst (v := (-1)) hx hb dX8_goesOn_60 (by decide) ?_
      refine lv_icmp_ne (tgt := 72) hx hb dX8_goesOn_61 (by decide) (fun c9 => ?_) (fun c9 => ?_)
      · have hw := hw.1 c9
        refine lv_iload_n hx hb dX8_goesOn_72 rfl (lv_at hl 1 rfl) ?_
        refine r_callI X hR (c_S X hR hl.1 (c_X8_isLetter l g x8) (lw_S q1762 q1763 q125 q1764) mh_X8_isLetter rfl (by decide) (by decide) rfl (cat4 (Nat.le_of_ble_eq_true rfl)) dX8_goesOn_73 hw) (fun x10 h H locs cells slots hR hw => ?_)
        refine lv_if_eq (tgt := 161) hx hb dX8_goesOn_76 (by decide) (fun c11 => ?_) (fun c11 => ?_)
        · have hw := hw.1 c11
          refine lv_iload_n hx hb dX8_goesOn_161 rfl (lv_at hl 1 rfl) ?_
          refine r_callI X hR (c_S X hR hl.1 (c_X8_isDigit l g x8) (lw_S q1766 q1767 q125 q1768) mh_X8_isDigit rfl (by decide) (by decide) rfl (cat4 (Nat.le_of_ble_eq_true rfl)) dX8_goesOn_162 hw) (fun x12 h H locs cells slots hR hw => ?_)
          refine lv_if_eq (tgt := 244) hx hb dX8_goesOn_165 (by decide) (fun c13 => ?_) (fun c13 => ?_)
          · have hw := hw.1 c13
            refine lv_iload_n hx hb dX8_goesOn_244 rfl (lv_at hl 1 rfl) ?_
            refine lv_bipush (v := 59) hx hb dX8_goesOn_245 (by decide) ?_
            refine lv_icmp_ne (tgt := 265) hx hb dX8_goesOn_247 (by decide) (fun c14 => ?_) (fun c14 => ?_)
            · have hw := hw.1 c14
              exact r_vret X hR rfl dX8_goesOn_265 hw
            · have hw := hw.2 c14
              refine r_aload_n X dX8_goesOn_250 rfl (lv_at hl 2 rfl) ?_
              refine lv_iconst (v := 4) hx hb dX8_goesOn_251 (by decide) ?_
              refine r_put X hR fp_X8_77 (Or.inl fn_X8_77) (nf_int _) dX8_goesOn_252 hw (fun H locs h hR hw => ?_)
              refine r_aload_n X dX8_goesOn_255 rfl (lv_at hl 2 rfl) ?_
              refine lv_dup hx hb dX8_goesOn_256 (cat_rf _) ?_
              refine r_gI X hR fk_X8_80 dX8_goesOn_257 hw (fun x15 hw => ?_)
              refine lv_iconst (v := 1) hx hb dX8_goesOn_260 (by decide) ?_
              refine lv_iadd hx hb dX8_goesOn_261 ?_
              refine r_put X hR fp_X8_80 (Or.inl fn_X8_80) (nf_int _) dX8_goesOn_262 hw (fun H locs h hR hw => ?_)
              exact r_vret X hR rfl dX8_goesOn_265 hw
          · have hw := hw.2 c13
            refine r_aload_n X dX8_goesOn_168 rfl (lv_at hl 2 rfl) ?_
            refine lv_iconst (v := 0) hx hb dX8_goesOn_169 (by decide) ?_
            refine r_put X hR fp_X8_100 (Or.inl fn_X8_100) (nf_int _) dX8_goesOn_170 hw (fun H locs h hR hw => ?_)
            obtain ⟨n, hw⟩ := hw
            exact t_X8_goesOn_L173 X  n hw hR (lv_sub hl [2, 0] rfl)
        · have hw := hw.2 c11
          refine r_aload_n X dX8_goesOn_79 rfl (lv_at hl 2 rfl) ?_
          refine lv_lconst (v := 0) hx hb dX8_goesOn_80 (by decide) ?_
          refine r_put X hR fp_X8_93 (Or.inl fn_X8_93) (nf_long _) dX8_goesOn_81 hw (fun H locs h hR hw => ?_)
          obtain ⟨n, hw⟩ := hw
          exact t_X8_goesOn_L84 X  n hw hR (lv_sub hl [2, 0] rfl)
      · have hw := hw.2 c9
        refine r_aload_n X dX8_goesOn_64 rfl (lv_at hl 2 rfl) ?_
        refine lv_iconst (v := 1) hx hb dX8_goesOn_65 (by decide) ?_
        refine r_put X hR fp_X8_77 (Or.inl fn_X8_77) (nf_int _) dX8_goesOn_66 hw (fun H locs h hR hw => ?_)
        refine lv_goto (tgt := 265) hx hb dX8_goesOn_69 (by decide) ?_
        exact r_vret X hR rfl dX8_goesOn_265 hw
    · have hw := hw.2 c5
      refine r_aload_n X dX8_goesOn_22 rfl (lv_at hl 0 rfl) ?_
      refine lv_dup hx hb dX8_goesOn_23 (cat_rf _) ?_
      refine r_gI X hR fk_X8_80 dX8_goesOn_24 hw (fun x38 hw => ?_)
      refine lv_iconst (v := 1) hx hb dX8_goesOn_27 (by decide) ?_
      refine lv_iadd hx hb dX8_goesOn_28 ?_
      refine r_put X hR fp_X8_80 (Or.inl fn_X8_80) (nf_int _) dX8_goesOn_29 hw (fun H locs h hR hw => ?_)
      refine lv_goto (tgt := 9) hx hb dX8_goesOn_32 (by decide) ?_
      exact k9 hw hR (lv_sub hl [0] rfl)
theorem c_X8_goesOn (l : Launch) (g : GT) (v0 : Option Nat) : CT qV l yX8_goesOn (ws_ yX8_goesOn cX8_goesOn 3 none) 2 g [va_rf v0] (fun K E h => w_X8_goesOn g v0 K E h) := by
  refine CT_of (lv := [(0, va_rf v0)]) (by decide +kernel) (by simp [lg_sl, cat_rf, cat_int, cat_long]) (by simp [lv_args, cat_rf, cat_int, cat_long]) (fun h0 K E p e s m args below meth c H locs cells slots ls X hxt hmn hw hR hl => ?_)
  have hx := X.hx
  have hb := X.hb
  unfold w_X8_goesOn at hw
  refine r_aload_n X dX8_goesOn_0 rfl (lv_at hl 0 rfl) ?_
  refine r_gI X hR fk_X8_77 dX8_goesOn_1 hw (fun x1 hw => ?_)
  refine lv_iconst (v := 5) hx hb dX8_goesOn_4 (by decide) ?_
  refine lv_icmp_ne (tgt := 9) hx hb dX8_goesOn_5 (by decide) (fun c2 => ?_) (fun c2 => ?_)
  · have hw := hw.1 c2
    obtain ⟨n, hw⟩ := hw
    exact t_X8_goesOn_L9 X  n hw hR (lv_sub hl [0] rfl)
  · have hw := hw.2 c2
    exact r_vret X hR rfl dX8_goesOn_8 hw
theorem c_J3_coder (l : Launch) (g : GT) (v0 : Option Nat) : CT qI l yJ3_coder (ws_ yJ3_coder cJ3_coder 1 (Option.some Jvm.ClassFile.FieldType.byte)) 1 g [va_rf v0] (fun K E h => w_J3_coder g v0 K E h) := by
  refine CT_of (lv := [(0, va_rf v0)]) (by decide +kernel) (by simp [lg_sl, cat_rf, cat_int, cat_long]) (by simp [lv_args, cat_rf, cat_int, cat_long]) (fun h0 K E p e s m args below meth c H locs cells slots ls X hxt hmn hw hR hl => ?_)
  have hx := X.hx
  have hb := X.hb
  unfold w_J3_coder at hw
  refine r_gets X hR (v := .int 1) (List.mem_of_getElem? (i := 0) rfl) q579 dJ3_coder_0 ?_
  refine lv_if_eq (tgt := 13) hx hb dJ3_coder_3 (by decide) (fun c1 => ?_) (fun c1 => ?_)
  · have hw := hw.1 c1
    refine lv_iconst (v := 1) hx hb dJ3_coder_13 (by decide) ?_
    exact r_zret X hR dJ3_coder_14 hw
  · have hw := hw.2 c1
    refine r_aload_n X dJ3_coder_6 rfl (lv_at hl 0 rfl) ?_
    refine r_gI X hR fk_J3_15 dJ3_coder_7 hw (fun x2 hw => ?_)
    refine lv_goto (tgt := 14) hx hb dJ3_coder_10 (by decide) ?_
    exact r_zret X hR dJ3_coder_14 hw
theorem c_J3_length (l : Launch) (g : GT) (v0 : Option Nat) : CT qI l yJ3_length (ws_ yJ3_length cJ3_length 1 (Option.some Jvm.ClassFile.FieldType.int)) 2 g [va_rf v0] (fun K E h => w_J3_length g v0 K E h) := by
  refine CT_of (lv := [(0, va_rf v0)]) (by decide +kernel) (by simp [lg_sl, cat_rf, cat_int, cat_long]) (by simp [lv_args, cat_rf, cat_int, cat_long]) (fun h0 K E p e s m args below meth c H locs cells slots ls X hxt hmn hw hR hl => ?_)
  have hx := X.hx
  have hb := X.hb
  unfold w_J3_length at hw
  refine r_aload_n X dJ3_length_0 rfl (lv_at hl 0 rfl) ?_
  refine r_gR X hR fk_J3_9 dJ3_length_1 hw (fun x1 hw => ?_)
  refine r_alen X hR dJ3_length_4 hw (fun x2 hw => ?_)
  refine r_aload_n X dJ3_length_5 rfl (lv_at hl 0 rfl) ?_
  refine r_callI X hR (c_V (ci := 0) (q := (RJ3, TJ3, 4)) X hR hl.1 (c_J3_coder l g v0) (lw_V q1789 q1790 q1791 q127 q1792) rfl rfl mh_J3_coder rfl (by decide) (by decide) rfl (cat4 (Nat.le_of_ble_eq_true rfl)) dJ3_length_6 hw) (fun x3 h H locs cells slots hR hw => ?_)
  refine lv_ishr hx hb dJ3_length_9 ?_
  exact r_iret X hR dJ3_length_10 hw
theorem t_J4_checkIndex_J9 {p : Program} {l : Launch} {e : Env} {s : State} {m : MethodId} {args : Array Value} {below : List Frame} {meth : Method} {c : Code} {g : GT} {h0 : AH} {v0 : Int32} {v1 : Int32} {v2 : Option Nat} {K : Int32 → AH → Prop} {E : Nat → AH → Prop} {h : AH} {H : Heap} {locs : List Loc} {cells slots : Nat} {ls : Array Slot} (X : Cx g h0 p s m args meth c RJ4 cJ4_checkIndex 3 (Option.some Jvm.ClassFile.FieldType.int))  (hw : w_J4_checkIndex_J9 g v0 v1 v2 K E h) (hR : HS g s h H locs) (hl : lv_has ls 3 [(0, .int v0), (1, .int v1), (2, va_rf v2)]) : W p l e (RM 1 h0) s m args below meth c H locs cells slots (MQT below g (qI K) E args s h0) (F0 m 9 ls []) := by
  have hx := X.hx
  have hb := X.hb
  unfold w_J4_checkIndex_J9 at hw
  refine r_aload_n X dJ4_checkIndex_9 rfl (lv_at hl 2 rfl) ?_
  refine lv_iload_n hx hb dJ4_checkIndex_10 rfl (lv_at hl 0 rfl) ?_
  refine lv_iload_n hx hb dJ4_checkIndex_11 rfl (lv_at hl 1 rfl) ?_
  exact hw.elim
theorem c_J4_checkIndex (l : Launch) (g : GT) (v0 : Int32) (v1 : Int32) (v2 : Option Nat) : CT qI l yJ4_checkIndex (ws_ yJ4_checkIndex cJ4_checkIndex 3 (Option.some Jvm.ClassFile.FieldType.int)) 1 g [.int v0, .int v1, va_rf v2] (fun K E h => w_J4_checkIndex g v0 v1 v2 K E h) := by
  refine CT_of (lv := [(0, .int v0), (1, .int v1), (2, va_rf v2)]) (by decide +kernel) (by simp [lg_sl, cat_rf, cat_int, cat_long]) (by simp [lv_args, cat_rf, cat_int, cat_long]) (fun h0 K E p e s m args below meth c H locs cells slots ls X hxt hmn hw hR hl => ?_)
  have hx := X.hx
  have hb := X.hb
  unfold w_J4_checkIndex at hw
  refine lv_iload_n hx hb dJ4_checkIndex_0 rfl (lv_at hl 0 rfl) ?_
  refine lv_if_lt (tgt := 9) hx hb dJ4_checkIndex_1 (by decide) (fun c1 => ?_) (fun c1 => ?_)
  · have hw := hw.1 c1
    exact t_J4_checkIndex_J9 X  hw hR (lv_sub hl [0, 1, 2] rfl)
  · have hw := hw.2 c1
    refine lv_iload_n hx hb dJ4_checkIndex_4 rfl (lv_at hl 0 rfl) ?_
    refine lv_iload_n hx hb dJ4_checkIndex_5 rfl (lv_at hl 1 rfl) ?_
    refine lv_icmp_lt (tgt := 16) hx hb dJ4_checkIndex_6 (by decide) (fun c2 => ?_) (fun c2 => ?_)
    · have hw := hw.1 c2
      refine lv_iload_n hx hb dJ4_checkIndex_16 rfl (lv_at hl 0 rfl) ?_
      exact r_iret X hR dJ4_checkIndex_17 hw
    · have hw := hw.2 c2
      exact t_J4_checkIndex_J9 X  hw hR (lv_sub hl [0, 1, 2] rfl)
theorem c_J3_checkIndex (l : Launch) (g : GT) (v0 : Int32) (v1 : Int32) : CT qV l yJ3_checkIndex (ws_ yJ3_checkIndex cJ3_checkIndex 2 none) 2 g [.int v0, .int v1] (fun K E h => w_J3_checkIndex g v0 v1 K E h) := by
  refine CT_of (lv := [(0, .int v0), (1, .int v1)]) (by decide +kernel) (by simp [lg_sl, cat_rf, cat_int, cat_long]) (by simp [lv_args, cat_rf, cat_int, cat_long]) (fun h0 K E p e s m args below meth c H locs cells slots ls X hxt hmn hw hR hl => ?_)
  have hx := X.hx
  have hb := X.hb
  unfold w_J3_checkIndex at hw
  refine lv_iload_n hx hb dJ3_checkIndex_0 rfl (lv_at hl 0 rfl) ?_
  refine lv_iload_n hx hb dJ3_checkIndex_1 rfl (lv_at hl 1 rfl) ?_
  refine r_gets X hR (v := va_rf (g.2.2.2.2 2)) (List.mem_of_getElem? (i := 3) rfl) q569 dJ3_checkIndex_2 ?_
  refine r_callI X hR (c_S X hR hl.1 (c_J4_checkIndex l g v0 v1 (g.2.2.2.2 2)) (lw_S q1803 q1804 q128 q1805) mh_J4_checkIndex rfl (by decide) (by decide) rfl (cat4 (Nat.le_of_ble_eq_true rfl)) dJ3_checkIndex_5 hw) (fun x1 h H locs cells slots hR hw => ?_)
  refine lv_pop hx hb dJ3_checkIndex_8 rfl ?_
  exact r_vret X hR rfl dJ3_checkIndex_9 hw
theorem c_J6_charAt (l : Launch) (g : GT) (v0 : Option Nat) (v1 : Int32) : CT qI l yJ6_charAt (ws_ yJ6_charAt cJ6_charAt 2 (Option.some Jvm.ClassFile.FieldType.char)) 3 g [va_rf v0, .int v1] (fun K E h => w_J6_charAt g v0 v1 K E h) := by
  refine CT_of (lv := [(0, va_rf v0), (1, .int v1)]) (by decide +kernel) (by simp [lg_sl, cat_rf, cat_int, cat_long]) (by simp [lv_args, cat_rf, cat_int, cat_long]) (fun h0 K E p e s m args below meth c H locs cells slots ls X hxt hmn hw hR hl => ?_)
  have hx := X.hx
  have hb := X.hb
  unfold w_J6_charAt at hw
  refine lv_iload_n hx hb dJ6_charAt_0 rfl (lv_at hl 1 rfl) ?_
  refine r_aload_n X dJ6_charAt_1 rfl (lv_at hl 0 rfl) ?_
  refine r_alen X hR dJ6_charAt_2 hw (fun x1 hw => ?_)
  refine r_callV X hR (c_S X hR hl.1 (c_J3_checkIndex l g v1 x1) (lw_S q1800 q1801 q127 q1802) mh_J3_checkIndex rfl (by decide) (by decide) rfl (cat4 (Nat.le_of_ble_eq_true rfl)) dJ6_charAt_3 hw) (fun _ h H locs cells slots hR hw => ?_)
  refine r_aload_n X dJ6_charAt_6 rfl (lv_at hl 0 rfl) ?_
  refine lv_iload_n hx hb dJ6_charAt_7 rfl (lv_at hl 1 rfl) ?_
  refine r_bald X hR dJ6_charAt_8 hw (fun x2 hw => ?_)
  refine lv_sipush (v := 255) hx hb dJ6_charAt_9 (by decide) ?_
  refine lv_iand hx hb dJ6_charAt_12 ?_
  refine lv_i2c hx hb dJ6_charAt_13 rfl ?_
  exact r_zret X hR dJ6_charAt_14 hw
theorem c_J5_checkIndex (l : Launch) (g : GT) (v0 : Int32) (v1 : Option Nat) : CT qV l yJ5_checkIndex (ws_ yJ5_checkIndex cJ5_checkIndex 2 none) 3 g [.int v0, va_rf v1] (fun K E h => w_J5_checkIndex g v0 v1 K E h) := by
  refine CT_of (lv := [(0, .int v0), (1, va_rf v1)]) (by decide +kernel) (by simp [lg_sl, cat_rf, cat_int, cat_long]) (by simp [lv_args, cat_rf, cat_int, cat_long]) (fun h0 K E p e s m args below meth c H locs cells slots ls X hxt hmn hw hR hl => ?_)
  have hx := X.hx
  have hb := X.hb
  unfold w_J5_checkIndex at hw
  refine lv_iload_n hx hb dJ5_checkIndex_0 rfl (lv_at hl 0 rfl) ?_
  refine r_aload_n X dJ5_checkIndex_1 rfl (lv_at hl 1 rfl) ?_
  refine r_callI X hR (c_S X hR hl.1 (c_J5_length l g v1) (lw_S q602 q603 q129 q604) mh_J5_length rfl (by decide) (by decide) rfl (cat4 (Nat.le_of_ble_eq_true rfl)) dJ5_checkIndex_2 hw) (fun x1 h H locs cells slots hR hw => ?_)
  refine r_callV X hR (c_S X hR hl.1 (c_J3_checkIndex l g v0 x1) (lw_S q1812 q1801 q127 q1802) mh_J3_checkIndex rfl (by decide) (by decide) rfl (cat4 (Nat.le_of_ble_eq_true rfl)) dJ5_checkIndex_5 hw) (fun _ h H locs cells slots hR hw => ?_)
  exact r_vret X hR rfl dJ5_checkIndex_8 hw
theorem c_J5_charAt (l : Launch) (g : GT) (v0 : Option Nat) (v1 : Int32) : CT qI l yJ5_charAt (ws_ yJ5_charAt cJ5_charAt 2 (Option.some Jvm.ClassFile.FieldType.char)) 4 g [va_rf v0, .int v1] (fun K E h => w_J5_charAt g v0 v1 K E h) := by
  refine CT_of (lv := [(0, va_rf v0), (1, .int v1)]) (by decide +kernel) (by simp [lg_sl, cat_rf, cat_int, cat_long]) (by simp [lv_args, cat_rf, cat_int, cat_long]) (fun h0 K E p e s m args below meth c H locs cells slots ls X hxt hmn hw hR hl => ?_)
  have hx := X.hx
  have hb := X.hb
  unfold w_J5_charAt at hw
  refine lv_iload_n hx hb dJ5_charAt_0 rfl (lv_at hl 1 rfl) ?_
  refine r_aload_n X dJ5_charAt_1 rfl (lv_at hl 0 rfl) ?_
  refine r_callV X hR (c_S X hR hl.1 (c_J5_checkIndex l g v1 v0) (lw_S q1809 q1810 q129 q1811) mh_J5_checkIndex rfl (by decide) (by decide) rfl (cat4 (Nat.le_of_ble_eq_true rfl)) dJ5_charAt_2 hw) (fun _ h H locs cells slots hR hw => ?_)
  refine r_aload_n X dJ5_charAt_5 rfl (lv_at hl 0 rfl) ?_
  refine lv_iload_n hx hb dJ5_charAt_6 rfl (lv_at hl 1 rfl) ?_
  refine r_callI X hR (c_S X hR hl.1 (c_J5_getChar l g v0 v1) (lw_S q609 q610 q129 q611) mh_J5_getChar rfl (by decide) (by decide) rfl (cat4 (Nat.le_of_ble_eq_true rfl)) dJ5_charAt_7 hw) (fun x1 h H locs cells slots hR hw => ?_)
  exact r_zret X hR dJ5_charAt_10 hw
theorem c_J3_charAt (l : Launch) (g : GT) (v0 : Option Nat) (v1 : Int32) : CT qI l yJ3_charAt (ws_ yJ3_charAt cJ3_charAt 2 (Option.some Jvm.ClassFile.FieldType.char)) 5 g [va_rf v0, .int v1] (fun K E h => w_J3_charAt g v0 v1 K E h) := by
  refine CT_of (lv := [(0, va_rf v0), (1, .int v1)]) (by decide +kernel) (by simp [lg_sl, cat_rf, cat_int, cat_long]) (by simp [lv_args, cat_rf, cat_int, cat_long]) (fun h0 K E p e s m args below meth c H locs cells slots ls X hxt hmn hw hR hl => ?_)
  have hx := X.hx
  have hb := X.hb
  unfold w_J3_charAt at hw
  refine r_aload_n X dJ3_charAt_0 rfl (lv_at hl 0 rfl) ?_
  refine r_callI X hR (c_V (ci := 0) (q := (RJ3, TJ3, 4)) X hR hl.1 (c_J3_isLatin1 l g v0) (lw_V q656 q657 q658 q127 q659) rfl rfl mh_J3_isLatin1 rfl (by decide) (by decide) rfl (cat4 (Nat.le_of_ble_eq_true rfl)) dJ3_charAt_1 hw) (fun x1 h H locs cells slots hR hw => ?_)
  refine lv_if_eq (tgt := 16) hx hb dJ3_charAt_4 (by decide) (fun c2 => ?_) (fun c2 => ?_)
  · have hw := hw.1 c2
    refine r_aload_n X dJ3_charAt_16 rfl (lv_at hl 0 rfl) ?_
    refine r_gR X hR fk_J3_9 dJ3_charAt_17 hw (fun x3 hw => ?_)
    refine lv_iload_n hx hb dJ3_charAt_20 rfl (lv_at hl 1 rfl) ?_
    refine r_callI X hR (c_S X hR hl.1 (c_J5_charAt l g x3 v1) (lw_S q1806 q1807 q129 q1808) mh_J5_charAt rfl (by decide) (by decide) rfl (cat4 (Nat.le_of_ble_eq_true rfl)) dJ3_charAt_21 hw) (fun x4 h H locs cells slots hR hw => ?_)
    exact r_zret X hR dJ3_charAt_24 hw
  · have hw := hw.2 c2
    refine r_aload_n X dJ3_charAt_7 rfl (lv_at hl 0 rfl) ?_
    refine r_gR X hR fk_J3_9 dJ3_charAt_8 hw (fun x5 hw => ?_)
    refine lv_iload_n hx hb dJ3_charAt_11 rfl (lv_at hl 1 rfl) ?_
    refine r_callI X hR (c_S X hR hl.1 (c_J6_charAt l g x5 v1) (lw_S q1797 q1798 q130 q1799) mh_J6_charAt rfl (by decide) (by decide) rfl (cat4 (Nat.le_of_ble_eq_true rfl)) dJ3_charAt_12 hw) (fun x6 h H locs cells slots hR hw => ?_)
    exact r_zret X hR dJ3_charAt_15 hw
theorem t_X8_packed_L4 {p : Program} {l : Launch} {e : Env} {s : State} {m : MethodId} {args : Array Value} {below : List Frame} {meth : Method} {c : Code} {g : GT} {h0 : AH} {v0 : Option Nat} {K : Int64 → AH → Prop} {E : Nat → AH → Prop} (X : Cx g h0 p s m args meth c RX8 cX8_packed 4 (Option.some Jvm.ClassFile.FieldType.long))  : ∀ (n : Nat) {v1 : Int64} {v3 : Int32} {h : AH} {H : Heap} {locs : List Loc} {cells slots : Nat} {ls : Array Slot}, LpN2 (w_X8_packed_L4 g v0 K E) n v1 v3 h → HS g s h H locs → lv_has ls 4 [(0, va_rf v0), (1, .long v1), (3, .int v3)] → W p l e (RM 6 h0) s m args below meth c H locs cells slots (MQT below g (qJ K) E args s h0) (F0 m 4 ls []) := by
  have hx := X.hx
  have hb := X.hb
  intro n
  induction n with
  | zero =>
    intro v1 v3 h H locs cells slots ls hw
    exact hw.elim
  | succ n k4 =>
    intro v1 v3 h H locs cells slots ls hw hR hl
    have hw : w_X8_packed_L4 g v0 K E (LpN2 (w_X8_packed_L4 g v0 K E) n) v1 v3 h := hw
    unfold w_X8_packed_L4 at hw
    refine lv_iload_n hx hb dX8_packed_4 rfl (lv_at hl 2 rfl) ?_
    refine r_aload_n X dX8_packed_5 rfl (lv_at hl 0 rfl) ?_
    refine r_callI X hR (c_V (ci := 0) (q := (RJ3, TJ3, 4)) X hR hl.1 (c_J3_length l g v0) (lw_V q1785 q1786 q1787 q127 q1788) rfl rfl mh_J3_length rfl (by decide) (by decide) rfl (cat4 (Nat.le_of_ble_eq_true rfl)) dX8_packed_6 hw) (fun x1 h H locs cells slots hR hw => ?_)
    refine lv_icmp_ge (tgt := 36) hx hb dX8_packed_9 (by decide) (fun c2 => ?_) (fun c2 => ?_)
    · have hw := hw.1 c2
      refine lv_lload_n hx hb dX8_packed_36 rfl (lv_at hl 1 rfl) ?_
      exact r_lret X hR dX8_packed_37 hw
    · have hw := hw.2 c2
      refine lv_ldc2 hx hb X.hown (X.hts _ q1765) dX8_packed_12 ?_
      refine lv_lload_n hx hb dX8_packed_15 rfl (lv_at hl 1 rfl) ?_
      refine lv_lmul hx hb dX8_packed_16 ?_
      refine r_aload_n X dX8_packed_17 rfl (lv_at hl 0 rfl) ?_
      refine lv_iload_n hx hb dX8_packed_18 rfl (lv_at hl 2 rfl) ?_
      refine r_callI X hR (c_V (ci := 0) (q := (RJ3, TJ3, 4)) X hR hl.1 (c_J3_charAt l g v0 v3) (lw_V q1793 q1794 q1795 q127 q1796) rfl rfl mh_J3_charAt rfl (by decide) (by decide) rfl (cat4 (Nat.le_of_ble_eq_true rfl)) dX8_packed_19 hw) (fun x3 h H locs cells slots hR hw => ?_)
      refine lv_bipush (v := 97) hx hb dX8_packed_22 (by decide) ?_
      refine lv_isub hx hb dX8_packed_24 ?_
      refine lv_iconst (v := 1) hx hb dX8_packed_25 (by decide) ?_
      refine lv_iadd hx hb dX8_packed_26 ?_
      refine lv_i2l hx hb dX8_packed_27 rfl ?_
      refine lv_ladd hx hb dX8_packed_28 ?_
      refine r_nmJ hw (fun x4 hw => ?_)
      refine lv_lstore_n (i := 1) (lv' := [(1, .long x4), (0, va_rf v0), (3, .int v3)]) hx hb dX8_packed_29 rfl hl (by decide) (by simp [cat_rf, cat_int, cat_long]) (fun ls hl => ?_)
      refine r_iinc X (k := 2) (v := (v3 + 1)) (lv' := fun x5 => [(3, .int x5), (1, .long x4), (0, va_rf v0)]) dX8_packed_30 hl rfl rfl (by decide) hw (fun _ => rfl) (fun x5 hw ls hl => ?_)
      refine lv_goto (tgt := 4) hx hb dX8_packed_33 (by decide) ?_
      exact k4 hw hR (lv_sub hl [2, 1, 0] rfl)
theorem c_X8_packed (l : Launch) (g : GT) (v0 : Option Nat) : CT qJ l yX8_packed (ws_ yX8_packed cX8_packed 4 (Option.some Jvm.ClassFile.FieldType.long)) 6 g [va_rf v0] (fun K E h => w_X8_packed g v0 K E h) := by
  refine CT_of (lv := [(0, va_rf v0)]) (by decide +kernel) (by simp [lg_sl, cat_rf, cat_int, cat_long]) (by simp [lv_args, cat_rf, cat_int, cat_long]) (fun h0 K E p e s m args below meth c H locs cells slots ls X hxt hmn hw hR hl => ?_)
  have hx := X.hx
  have hb := X.hb
  unfold w_X8_packed at hw
  refine lv_lconst (v := 0) hx hb dX8_packed_0 (by decide) ?_
  refine lv_lstore_n (i := 1) (lv' := [(1, .long 0), (0, va_rf v0)]) hx hb dX8_packed_1 rfl hl (by decide) (by simp [cat_rf, cat_int, cat_long]) (fun ls hl => ?_)
  refine lv_iconst (v := 0) hx hb dX8_packed_2 (by decide) ?_
  refine lv_istore_n (i := 3) (lv' := [(3, .int 0), (1, .long 0), (0, va_rf v0)]) hx hb dX8_packed_3 rfl hl (by decide) rfl (fun ls hl => ?_)
  obtain ⟨n, hw⟩ := hw
  exact t_X8_packed_L4 X  n hw hR (lv_sub hl [2, 1, 0] rfl)
theorem c_X8_isWord (l : Launch) (g : GT) (v0 : Option Nat) (v1 : Option Nat) : CT qI l yX8_isWord (ws_ yX8_isWord cX8_isWord 2 (Option.some Jvm.ClassFile.FieldType.boolean)) 7 g [va_rf v0, va_rf v1] (fun K E h => w_X8_isWord g v0 v1 K E h) := by
  refine CT_of (lv := [(0, va_rf v0), (1, va_rf v1)]) (by decide +kernel) (by simp [lg_sl, cat_rf, cat_int, cat_long]) (by simp [lv_args, cat_rf, cat_int, cat_long]) (fun h0 K E p e s m args below meth c H locs cells slots ls X hxt hmn hw hR hl => ?_)
  have hx := X.hx
  have hb := X.hb
  unfold w_X8_isWord at hw
  refine r_aload_n X dX8_isWord_0 rfl (lv_at hl 0 rfl) ?_
  refine r_gI X hR fk_X8_77 dX8_isWord_1 hw (fun x1 hw => ?_)
  refine lv_iconst (v := 2) hx hb dX8_isWord_4 (by decide) ?_
  refine lv_icmp_ne (tgt := 24) hx hb dX8_isWord_5 (by decide) (fun c2 => ?_) (fun c2 => ?_)
  · have hw := hw.1 c2
    refine lv_iconst (v := 0) hx hb dX8_isWord_24 (by decide) ?_
    exact r_zret X hR dX8_isWord_25 hw
  · have hw := hw.2 c2
    refine r_aload_n X dX8_isWord_8 rfl (lv_at hl 0 rfl) ?_
    refine r_gJ X hR fk_X8_93 dX8_isWord_9 hw (fun x3 hw => ?_)
    refine r_aload_n X dX8_isWord_12 rfl (lv_at hl 1 rfl) ?_
    refine r_callJ X hR (c_S X hR hl.1 (c_X8_packed l g v1) (lw_S q1782 q1783 q125 q1784) mh_X8_packed rfl (by decide) (by decide) rfl (cat4 (Nat.le_of_ble_eq_true rfl)) dX8_isWord_13 hw) (fun x4 h H locs cells slots hR hw => ?_)
    refine W.lcmp hx hb dX8_isWord_16 ?_
    refine lv_if_ne (tgt := 24) hx hb dX8_isWord_17 (by decide) (fun c5 => ?_) (fun c5 => ?_)
    · have hw := hw.1 c5
      refine lv_iconst (v := 0) hx hb dX8_isWord_24 (by decide) ?_
      exact r_zret X hR dX8_isWord_25 hw
    · have hw := hw.2 c5
      refine lv_iconst (v := 1) hx hb dX8_isWord_20 (by decide) ?_
      refine lv_goto (tgt := 25) hx hb dX8_isWord_21 (by decide) ?_
      exact r_zret X hR dX8_isWord_25 hw
theorem c_X8_flaw (l : Launch) (g : GT) (v0 : Option Nat) (v1 : Int32) : CT qV l yX8_flaw (ws_ yX8_flaw cX8_flaw 2 none) 1 g [va_rf v0, .int v1] (fun K E h => w_X8_flaw g v0 v1 K E h) := by
  refine CT_of (lv := [(0, va_rf v0), (1, .int v1)]) (by decide +kernel) (by simp [lg_sl, cat_rf, cat_int, cat_long]) (by simp [lv_args, cat_rf, cat_int, cat_long]) (fun h0 K E p e s m args below meth c H locs cells slots ls X hxt hmn hw hR hl => ?_)
  have hx := X.hx
  have hb := X.hb
  unfold w_X8_flaw at hw
  refine r_aload_n X dX8_flaw_0 rfl (lv_at hl 0 rfl) ?_
  refine r_gI X hR fk_X8_77 dX8_flaw_1 hw (fun x1 hw => ?_)
  refine lv_iconst (v := 5) hx hb dX8_flaw_4 (by decide) ?_
  refine lv_icmp_ne (tgt := 9) hx hb dX8_flaw_5 (by decide) (fun c2 => ?_) (fun c2 => ?_)
  · have hw := hw.1 c2
    refine r_aload_n X dX8_flaw_9 rfl (lv_at hl 0 rfl) ?_
    refine lv_iload_n hx hb dX8_flaw_10 rfl (lv_at hl 1 rfl) ?_
    refine r_put X hR fp_X8_103 (Or.inl fn_X8_103) (nf_int _) dX8_flaw_11 hw (fun H locs h hR hw => ?_)
    refine r_aload_n X dX8_flaw_14 rfl (lv_at hl 0 rfl) ?_
    refine r_aload_n X dX8_flaw_15 rfl (lv_at hl 0 rfl) ?_
    refine r_gI X hR fk_X8_86 dX8_flaw_16 hw (fun x3 hw => ?_)
    refine r_put X hR fp_X8_106 (Or.inl fn_X8_106) (nf_int _) dX8_flaw_19 hw (fun H locs h hR hw => ?_)
    refine r_aload_n X dX8_flaw_22 rfl (lv_at hl 0 rfl) ?_
    refine lv_iconst (v := 5) hx hb dX8_flaw_23 (by decide) ?_
    refine r_put X hR fp_X8_77 (Or.inl fn_X8_77) (nf_int _) dX8_flaw_24 hw (fun H locs h hR hw => ?_)
    exact r_vret X hR rfl dX8_flaw_27 hw
  · have hw := hw.2 c2
    exact r_vret X hR rfl dX8_flaw_8 hw
theorem t_X8_needs_J13 {p : Program} {l : Launch} {e : Env} {s : State} {m : MethodId} {args : Array Value} {below : List Frame} {meth : Method} {c : Code} {g : GT} {h0 : AH} {v0 : Option Nat} {K : Unit → AH → Prop} {E : Nat → AH → Prop} {h : AH} {H : Heap} {locs : List Loc} {cells slots : Nat} {ls : Array Slot} (X : Cx g h0 p s m args meth c RX8 cX8_needs 2 none)  (hw : w_X8_needs_J13 g v0 K E h) (hR : HS g s h H locs) (hl : lv_has ls 2 [(0, va_rf v0)]) : W p l e (RM 8 h0) s m args below meth c H locs cells slots (MQT below g (qV K) E args s h0) (F0 m 13 ls []) := by
  have hx := X.hx
  have hb := X.hb
  unfold w_X8_needs_J13 at hw
  refine r_aload_n X dX8_needs_13 rfl (lv_at hl 0 rfl) ?_
  refine r_callV X hR (c_V (ci := 8) (q := (RX8, TX8, 32)) X hR hl.1 (c_X8_goesOn l g v0) (lw_V q1754 q1756 qs51 q125 q1757) rfl rfl mh_X8_goesOn rfl (by decide) (by decide) rfl (cat4 (Nat.le_of_ble_eq_true rfl)) dX8_needs_14 hw) (fun _ h H locs cells slots hR hw => ?_)
  exact r_vret X hR rfl dX8_needs_17 hw
theorem c_X8_needs (l : Launch) (g : GT) (v0 : Option Nat) (v1 : Option Nat) : CT qV l yX8_needs (ws_ yX8_needs cX8_needs 2 none) 8 g [va_rf v0, va_rf v1] (fun K E h => w_X8_needs g v0 v1 K E h) := by
  refine CT_of (lv := [(0, va_rf v0), (1, va_rf v1)]) (by decide +kernel) (by simp [lg_sl, cat_rf, cat_int, cat_long]) (by simp [lv_args, cat_rf, cat_int, cat_long]) (fun h0 K E p e s m args below meth c H locs cells slots ls X hxt hmn hw hR hl => ?_)
  have hx := X.hx
  have hb := X.hb
  unfold w_X8_needs at hw
  refine r_aload_n X dX8_needs_0 rfl (lv_at hl 0 rfl) ?_
  refine r_aload_n X dX8_needs_1 rfl (lv_at hl 1 rfl) ?_
  refine r_callI X hR (c_V (ci := 8) (q := (RX8, TX8, 32)) X hR hl.1 (c_X8_isWord l g v0 v1) (lw_V q1778 q1780 qs55 q125 q1781) rfl rfl mh_X8_isWord rfl (by decide) (by decide) rfl (cat4 (Nat.le_of_ble_eq_true rfl)) dX8_needs_2 hw) (fun x1 h H locs cells slots hR hw => ?_)
  refine lv_if_ne (tgt := 13) hx hb dX8_needs_5 (by decide) (fun c2 => ?_) (fun c2 => ?_)
  · have hw := hw.1 c2
    exact t_X8_needs_J13 X  hw hR (lv_sub hl [0] rfl)
  · have hw := hw.2 c2
    refine r_aload_n X dX8_needs_8 rfl (lv_at hl 0 rfl) ?_
    refine lv_iconst (v := 1) hx hb dX8_needs_9 (by decide) ?_
    refine r_callV X hR (c_V (ci := 8) (q := (RX8, TX8, 32)) X hR hl.1 (c_X8_flaw l g v0 1) (lw_V q1817 q1819 qs57 q125 q1820) rfl rfl mh_X8_flaw rfl (by decide) (by decide) rfl (cat4 (Nat.le_of_ble_eq_true rfl)) dX8_needs_10 hw) (fun _ h H locs cells slots hR hw => ?_)
    exact t_X8_needs_J13 X  hw hR (lv_sub hl [0] rfl)
theorem c_X8_in (l : Launch) (g : GT) (v0 : Int32) (v1 : Int32) (v2 : Int32) : CT qI l yX8_in (ws_ yX8_in cX8_in 3 (Option.some Jvm.ClassFile.FieldType.boolean)) 1 g [.int v0, .int v1, .int v2] (fun K E h => w_X8_in g v0 v1 v2 K E h) := by
  refine CT_of (lv := [(0, .int v0), (1, .int v1), (2, .int v2)]) (by decide +kernel) (by simp [lg_sl, cat_rf, cat_int, cat_long]) (by simp [lv_args, cat_rf, cat_int, cat_long]) (fun h0 K E p e s m args below meth c H locs cells slots ls X hxt hmn hw hR hl => ?_)
  have hx := X.hx
  have hb := X.hb
  unfold w_X8_in at hw
  refine lv_iload_n hx hb dX8_in_0 rfl (lv_at hl 0 rfl) ?_
  refine lv_iload_n hx hb dX8_in_1 rfl (lv_at hl 1 rfl) ?_
  refine lv_icmp_lt (tgt := 14) hx hb dX8_in_2 (by decide) (fun c1 => ?_) (fun c1 => ?_)
  · have hw := hw.1 c1
    refine lv_iconst (v := 0) hx hb dX8_in_14 (by decide) ?_
    exact r_zret X hR dX8_in_15 hw
  · have hw := hw.2 c1
    refine lv_iload_n hx hb dX8_in_5 rfl (lv_at hl 0 rfl) ?_
    refine lv_iload_n hx hb dX8_in_6 rfl (lv_at hl 2 rfl) ?_
    refine lv_icmp_gt (tgt := 14) hx hb dX8_in_7 (by decide) (fun c2 => ?_) (fun c2 => ?_)
    · have hw := hw.1 c2
      refine lv_iconst (v := 0) hx hb dX8_in_14 (by decide) ?_
      exact r_zret X hR dX8_in_15 hw
    · have hw := hw.2 c2
      refine lv_iconst (v := 1) hx hb dX8_in_10 (by decide) ?_
      refine lv_goto (tgt := 15) hx hb dX8_in_11 (by decide) ?_
      exact r_zret X hR dX8_in_15 hw
theorem t_X8_readWhole_J49 {p : Program} {l : Launch} {e : Env} {s : State} {m : MethodId} {args : Array Value} {below : List Frame} {meth : Method} {c : Code} {g : GT} {h0 : AH} {v0 : Option Nat} {s0 : Int32} {K : Int32 → AH → Prop} {E : Nat → AH → Prop} {h : AH} {H : Heap} {locs : List Loc} {cells slots : Nat} {ls : Array Slot} (X : Cx g h0 p s m args meth c RX8 cX8_readWhole 4 (Option.some Jvm.ClassFile.FieldType.int))  (hw : w_X8_readWhole_J49 g v0 s0 K E h) (hR : HS g s h H locs) (hl : lv_has ls 4 [(0, va_rf v0)]) : W p l e (RM 3 h0) s m args below meth c H locs cells slots (MQT below g (qI K) E args s h0) (F0 m 49 ls [.int s0]) := by
  have hx := X.hx
  have hb := X.hb
  unfold w_X8_readWhole_J49 at hw
  refine lv_istore_n (i := 3) (lv' := [(3, .int s0), (0, va_rf v0)]) hx hb dX8_readWhole_49 rfl hl (by decide) rfl (fun ls hl => ?_)
  refine r_aload_n X dX8_readWhole_50 rfl (lv_at hl 1 rfl) ?_
  refine r_callV X hR (c_V (ci := 8) (q := (RX8, TX8, 32)) X hR hl.1 (c_X8_goesOn l g v0) (lw_V q1754 q1756 qs51 q125 q1757) rfl rfl mh_X8_goesOn rfl (by decide) (by decide) rfl (cat4 (Nat.le_of_ble_eq_true rfl)) dX8_readWhole_51 hw) (fun _ h H locs cells slots hR hw => ?_)
  refine lv_iload_n hx hb dX8_readWhole_54 rfl (lv_at hl 0 rfl) ?_
  exact r_iret X hR dX8_readWhole_55 hw
theorem t_X8_readWhole_J33 {p : Program} {l : Launch} {e : Env} {s : State} {m : MethodId} {args : Array Value} {below : List Frame} {meth : Method} {c : Code} {g : GT} {h0 : AH} {v0 : Option Nat} {v1 : Int32} {K : Int32 → AH → Prop} {E : Nat → AH → Prop} {h : AH} {H : Heap} {locs : List Loc} {cells slots : Nat} {ls : Array Slot} (X : Cx g h0 p s m args meth c RX8 cX8_readWhole 4 (Option.some Jvm.ClassFile.FieldType.int))  (hw : w_X8_readWhole_J33 g v0 v1 K E h) (hR : HS g s h H locs) (hl : lv_has ls 4 [(0, va_rf v0), (1, .int v1)]) : W p l e (RM 3 h0) s m args below meth c H locs cells slots (MQT below g (qI K) E args s h0) (F0 m 33 ls []) := by
  have hx := X.hx
  have hb := X.hb
  unfold w_X8_readWhole_J33 at hw
  refine r_aload_n X dX8_readWhole_33 rfl (lv_at hl 0 rfl) ?_
  refine r_gI X hR fk_X8_77 dX8_readWhole_34 hw (fun x6 hw => ?_)
  refine lv_iconst (v := 5) hx hb dX8_readWhole_37 (by decide) ?_
  refine lv_icmp_ne (tgt := 45) hx hb dX8_readWhole_38 (by decide) (fun c7 => ?_) (fun c7 => ?_)
  · have hw := hw.1 c7
    refine r_aload_n X dX8_readWhole_45 rfl (lv_at hl 0 rfl) ?_
    refine r_gI X hR fk_X8_100 dX8_readWhole_46 hw (fun x8 hw => ?_)
    exact t_X8_readWhole_J49 X  hw hR (lv_sub hl [0] rfl)
  · have hw := hw.2 c7
    refine lv_iload_n hx hb dX8_readWhole_41 rfl (lv_at hl 1 rfl) ?_
    refine lv_goto (tgt := 49) hx hb dX8_readWhole_42 (by decide) ?_
    exact t_X8_readWhole_J49 X  hw hR (lv_sub hl [0] rfl)
theorem c_X8_readWhole (l : Launch) (g : GT) (v0 : Option Nat) (v1 : Int32) (v2 : Int32) : CT qI l yX8_readWhole (ws_ yX8_readWhole cX8_readWhole 4 (Option.some Jvm.ClassFile.FieldType.int)) 3 g [va_rf v0, .int v1, .int v2] (fun K E h => w_X8_readWhole g v0 v1 v2 K E h) := by
  refine CT_of (lv := [(0, va_rf v0), (1, .int v1), (2, .int v2)]) (by decide +kernel) (by simp [lg_sl, cat_rf, cat_int, cat_long]) (by simp [lv_args, cat_rf, cat_int, cat_long]) (fun h0 K E p e s m args below meth c H locs cells slots ls X hxt hmn hw hR hl => ?_)
  have hx := X.hx
  have hb := X.hb
  unfold w_X8_readWhole at hw
  refine r_aload_n X dX8_readWhole_0 rfl (lv_at hl 0 rfl) ?_
  refine r_gI X hR fk_X8_77 dX8_readWhole_1 hw (fun x1 hw => ?_)
  refine lv_iconst (v := 3) hx hb dX8_readWhole_4 (by decide) ?_
  refine lv_icmp_eq (tgt := 16) hx hb dX8_readWhole_5 (by decide) (fun c2 => ?_) (fun c2 => ?_)
  · have hw := hw.1 c2
    refine r_aload_n X dX8_readWhole_16 rfl (lv_at hl 0 rfl) ?_
    refine r_gI X hR fk_X8_100 dX8_readWhole_17 hw (fun x3 hw => ?_)
    refine lv_iload_n hx hb dX8_readWhole_20 rfl (lv_at hl 1 rfl) ?_
    refine lv_iload_n hx hb dX8_readWhole_21 rfl (lv_at hl 2 rfl) ?_
    refine r_callI X hR (c_S X hR hl.1 (c_X8_in l g x3 v1 v2) (lw_S q1834 q1835 q125 q1836) mh_X8_in rfl (by decide) (by decide) rfl (cat4 (Nat.le_of_ble_eq_true rfl)) dX8_readWhole_22 hw) (fun x4 h H locs cells slots hR hw => ?_)
    refine lv_if_ne (tgt := 33) hx hb dX8_readWhole_25 (by decide) (fun c5 => ?_) (fun c5 => ?_)
    · have hw := hw.1 c5
      exact t_X8_readWhole_J33 X  hw hR (lv_sub hl [0, 1] rfl)
    · have hw := hw.2 c5
      refine r_aload_n X dX8_readWhole_28 rfl (lv_at hl 0 rfl) ?_
      refine lv_iconst (v := 4) hx hb dX8_readWhole_29 (by decide) ?_
      refine r_callV X hR (c_V (ci := 8) (q := (RX8, TX8, 32)) X hR hl.1 (c_X8_flaw l g v0 4) (lw_V q1817 q1819 qs57 q125 q1820) rfl rfl mh_X8_flaw rfl (by decide) (by decide) rfl (cat4 (Nat.le_of_ble_eq_true rfl)) dX8_readWhole_30 hw) (fun _ h H locs cells slots hR hw => ?_)
      exact t_X8_readWhole_J33 X  hw hR (lv_sub hl [0, 1] rfl)
  · have hw := hw.2 c2
    refine r_aload_n X dX8_readWhole_8 rfl (lv_at hl 0 rfl) ?_
    refine lv_iconst (v := 1) hx hb dX8_readWhole_9 (by decide) ?_
    refine r_callV X hR (c_V (ci := 8) (q := (RX8, TX8, 32)) X hR hl.1 (c_X8_flaw l g v0 1) (lw_V q1817 q1819 qs57 q125 q1820) rfl rfl mh_X8_flaw rfl (by decide) (by decide) rfl (cat4 (Nat.le_of_ble_eq_true rfl)) dX8_readWhole_10 hw) (fun _ h H locs cells slots hR hw => ?_)
    refine lv_goto (tgt := 33) hx hb dX8_readWhole_13 (by decide) ?_
    exact t_X8_readWhole_J33 X  hw hR (lv_sub hl [0, 1] rfl)
theorem c_X8_readPart (l : Launch) (g : GT) (v0 : Option Nat) (v1 : Option Nat) (v2 : Int32) (v3 : Int32) : CT qI l yX8_readPart (ws_ yX8_readPart cX8_readPart 4 (Option.some Jvm.ClassFile.FieldType.int)) 9 g [va_rf v0, va_rf v1, .int v2, .int v3] (fun K E h => w_X8_readPart g v0 v1 v2 v3 K E h) := by
  refine CT_of (lv := [(0, va_rf v0), (1, va_rf v1), (2, .int v2), (3, .int v3)]) (by decide +kernel) (by simp [lg_sl, cat_rf, cat_int, cat_long]) (by simp [lv_args, cat_rf, cat_int, cat_long]) (fun h0 K E p e s m args below meth c H locs cells slots ls X hxt hmn hw hR hl => ?_)
  have hx := X.hx
  have hb := X.hb
  unfold w_X8_readPart at hw
  refine r_aload_n X dX8_readPart_0 rfl (lv_at hl 0 rfl) ?_
  refine r_aload_n X dX8_readPart_1 rfl (lv_at hl 1 rfl) ?_
  refine r_callV X hR (c_V (ci := 8) (q := (RX8, TX8, 32)) X hR hl.1 (c_X8_needs l g v0 v1) (lw_V q1826 q1828 qs59 q125 q1829) rfl rfl mh_X8_needs rfl (by decide) (by decide) rfl (cat4 (Nat.le_of_ble_eq_true rfl)) dX8_readPart_2 hw) (fun _ h H locs cells slots hR hw => ?_)
  refine r_aload_n X dX8_readPart_5 rfl (lv_at hl 0 rfl) ?_
  refine lv_iload_n hx hb dX8_readPart_6 rfl (lv_at hl 2 rfl) ?_
  refine lv_iload_n hx hb dX8_readPart_7 rfl (lv_at hl 3 rfl) ?_
  refine r_callI X hR (c_V (ci := 8) (q := (RX8, TX8, 32)) X hR hl.1 (c_X8_readWhole l g v0 v2 v3) (lw_V q1830 q1832 qs60 q125 q1833) rfl rfl mh_X8_readWhole rfl (by decide) (by decide) rfl (cat4 (Nat.le_of_ble_eq_true rfl)) dX8_readPart_8 hw) (fun x1 h H locs cells slots hR hw => ?_)
  exact r_iret X hR dX8_readPart_11 hw
theorem t_X8_readCounty_J15 {p : Program} {l : Launch} {e : Env} {s : State} {m : MethodId} {args : Array Value} {below : List Frame} {meth : Method} {c : Code} {g : GT} {h0 : AH} {v0 : Option Nat} {K : Unit → AH → Prop} {E : Nat → AH → Prop} {h : AH} {H : Heap} {locs : List Loc} {cells slots : Nat} {ls : Array Slot} (X : Cx g h0 p s m args meth c RX8 cX8_readCounty 4 none)  (hw : w_X8_readCounty_J15 g v0 K E h) (hR : HS g s h H locs) (hl : lv_has ls 4 [(0, va_rf v0)]) : W p l e (RM 10 h0) s m args below meth c H locs cells slots (MQT below g (qV K) E args s h0) (F0 m 15 ls []) := by
  have hx := X.hx
  have hb := X.hb
  unfold w_X8_readCounty_J15 at hw
  refine r_aload_n X dX8_readCounty_15 rfl (lv_at hl 0 rfl) ?_
  refine r_callV X hR (c_V (ci := 8) (q := (RX8, TX8, 32)) X hR hl.1 (c_X8_goesOn l g v0) (lw_V q1754 q1756 qs51 q125 q1757) rfl rfl mh_X8_goesOn rfl (by decide) (by decide) rfl (cat4 (Nat.le_of_ble_eq_true rfl)) dX8_readCounty_16 hw) (fun _ h H locs cells slots hR hw => ?_)
  refine r_aload_n X dX8_readCounty_19 rfl (lv_at hl 0 rfl) ?_
  refine r_ldcS X (tx := "lapse") (List.mem_of_getElem? (i := 31) rfl) dX8_readCounty_20 ?_
  refine lv_iconst (v := 1) hx hb dX8_readCounty_22 (by decide) ?_
  refine lv_bipush (v := 30) hx hb dX8_readCounty_23 (by decide) ?_
  refine r_callI X hR (c_V (ci := 8) (q := (RX8, TX8, 32)) X hR hl.1 (c_X8_readPart l g v0 (some (g.2.2.2.1 9)) 1 30) (lw_V q1822 q1824 qs58 q125 q1825) rfl rfl mh_X8_readPart rfl (by decide) (by decide) rfl (cat4 (Nat.le_of_ble_eq_true rfl)) dX8_readCounty_25 hw) (fun x4 h H locs cells slots hR hw => ?_)
  refine lv_istore_n (i := 1) (lv' := [(1, .int x4), (0, va_rf v0)]) hx hb dX8_readCounty_28 rfl hl (by decide) (by simp [cat_rf, cat_int, cat_long]) (fun ls hl => ?_)
  refine r_aload_n X dX8_readCounty_29 rfl (lv_at hl 1 rfl) ?_
  refine r_ldcS X (tx := "gust") (List.mem_of_getElem? (i := 32) rfl) dX8_readCounty_30 ?_
  refine lv_iconst (v := 0) hx hb dX8_readCounty_32 (by decide) ?_
  refine lv_bipush (v := 99) hx hb dX8_readCounty_33 (by decide) ?_
  refine r_callI X hR (c_V (ci := 8) (q := (RX8, TX8, 32)) X hR hl.1 (c_X8_readPart l g v0 (some (g.2.2.2.1 10)) 0 99) (lw_V q1822 q1824 qs58 q125 q1825) rfl rfl mh_X8_readPart rfl (by decide) (by decide) rfl (cat4 (Nat.le_of_ble_eq_true rfl)) dX8_readCounty_35 hw) (fun x5 h H locs cells slots hR hw => ?_)
  refine lv_istore_n (i := 2) (lv' := [(2, .int x5), (1, .int x4), (0, va_rf v0)]) hx hb dX8_readCounty_38 rfl hl (by decide) rfl (fun ls hl => ?_)
  refine r_aload_n X dX8_readCounty_39 rfl (lv_at hl 2 rfl) ?_
  refine r_ldcS X (tx := "rains") (List.mem_of_getElem? (i := 33) rfl) dX8_readCounty_40 ?_
  refine lv_iconst (v := 0) hx hb dX8_readCounty_42 (by decide) ?_
  refine lv_bipush (v := 99) hx hb dX8_readCounty_43 (by decide) ?_
  refine r_callI X hR (c_V (ci := 8) (q := (RX8, TX8, 32)) X hR hl.1 (c_X8_readPart l g v0 (some (g.2.2.2.1 11)) 0 99) (lw_V q1822 q1824 qs58 q125 q1825) rfl rfl mh_X8_readPart rfl (by decide) (by decide) rfl (cat4 (Nat.le_of_ble_eq_true rfl)) dX8_readCounty_45 hw) (fun x6 h H locs cells slots hR hw => ?_)
  refine lv_istore_n (i := 3) (lv' := [(3, .int x6), (2, .int x5), (1, .int x4), (0, va_rf v0)]) hx hb dX8_readCounty_48 rfl hl (by decide) rfl (fun ls hl => ?_)
  refine r_aload_n X dX8_readCounty_49 rfl (lv_at hl 3 rfl) ?_
  refine r_gI X hR fk_X8_77 dX8_readCounty_50 hw (fun x7 hw => ?_)
  refine lv_iconst (v := 5) hx hb dX8_readCounty_53 (by decide) ?_
  refine lv_icmp_ne (tgt := 58) hx hb dX8_readCounty_54 (by decide) (fun c8 => ?_) (fun c8 => ?_)
  · have hw := hw.1 c8
    refine r_aload_n X dX8_readCounty_58 rfl (lv_at hl 3 rfl) ?_
    refine r_gR X hR fk_X8_152 dX8_readCounty_59 hw (fun x9 hw => ?_)
    refine lv_iload_n hx hb dX8_readCounty_62 rfl (lv_at hl 2 rfl) ?_
    refine r_put X hR fp_X8_156 (Or.inl fn_X8_156) (nf_int _) dX8_readCounty_63 hw (fun H locs h hR hw => ?_)
    refine r_aload_n X dX8_readCounty_66 rfl (lv_at hl 3 rfl) ?_
    refine r_gR X hR fk_X8_152 dX8_readCounty_67 hw (fun x10 hw => ?_)
    refine lv_iload_n hx hb dX8_readCounty_70 rfl (lv_at hl 1 rfl) ?_
    refine r_put X hR fp_X8_230 (Or.inl fn_X8_230) (nf_int _) dX8_readCounty_71 hw (fun H locs h hR hw => ?_)
    refine r_aload_n X dX8_readCounty_74 rfl (lv_at hl 3 rfl) ?_
    refine r_gR X hR fk_X8_152 dX8_readCounty_75 hw (fun x11 hw => ?_)
    refine lv_iload_n hx hb dX8_readCounty_78 rfl (lv_at hl 0 rfl) ?_
    refine r_put X hR fp_X8_232 (Or.inl fn_X8_232) (nf_int _) dX8_readCounty_79 hw (fun H locs h hR hw => ?_)
    exact r_vret X hR rfl dX8_readCounty_82 hw
  · have hw := hw.2 c8
    exact r_vret X hR rfl dX8_readCounty_57 hw
theorem c_X8_readCounty (l : Launch) (g : GT) (v0 : Option Nat) : CT qV l yX8_readCounty (ws_ yX8_readCounty cX8_readCounty 4 none) 10 g [va_rf v0] (fun K E h => w_X8_readCounty g v0 K E h) := by
  refine CT_of (lv := [(0, va_rf v0)]) (by decide +kernel) (by simp [lg_sl, cat_rf, cat_int, cat_long]) (by simp [lv_args, cat_rf, cat_int, cat_long]) (fun h0 K E p e s m args below meth c H locs cells slots ls X hxt hmn hw hR hl => ?_)
  have hx := X.hx
  have hb := X.hb
  unfold w_X8_readCounty at hw
  refine r_aload_n X dX8_readCounty_0 rfl (lv_at hl 0 rfl) ?_
  refine r_gR X hR fk_X8_152 dX8_readCounty_1 hw (fun x1 hw => ?_)
  refine r_gI X hR fk_X8_156 dX8_readCounty_4 hw (fun x2 hw => ?_)
  refine lv_if_le (tgt := 15) hx hb dX8_readCounty_7 (by decide) (fun c3 => ?_) (fun c3 => ?_)
  · have hw := hw.1 c3
    exact t_X8_readCounty_J15 X  hw hR (lv_sub hl [0] rfl)
  · have hw := hw.2 c3
    refine r_aload_n X dX8_readCounty_10 rfl (lv_at hl 0 rfl) ?_
    refine lv_iconst (v := 3) hx hb dX8_readCounty_11 (by decide) ?_
    refine r_callV X hR (c_V (ci := 8) (q := (RX8, TX8, 32)) X hR hl.1 (c_X8_flaw l g v0 3) (lw_V q1817 q1819 qs57 q125 q1820) rfl rfl mh_X8_flaw rfl (by decide) (by decide) rfl (cat4 (Nat.le_of_ble_eq_true rfl)) dX8_readCounty_12 hw) (fun _ h H locs cells slots hR hw => ?_)
    exact t_X8_readCounty_J15 X  hw hR (lv_sub hl [0] rfl)
theorem t_X8_lineBegins_J26 {p : Program} {l : Launch} {e : Env} {s : State} {m : MethodId} {args : Array Value} {below : List Frame} {meth : Method} {c : Code} {g : GT} {h0 : AH} {v0 : Option Nat} {K : Unit → AH → Prop} {E : Nat → AH → Prop} {h : AH} {H : Heap} {locs : List Loc} {cells slots : Nat} {ls : Array Slot} (X : Cx g h0 p s m args meth c RX8 cX8_lineBegins 3 none)  (hw : w_X8_lineBegins_J26 g v0 K E h) (hR : HS g s h H locs) (hl : lv_has ls 3 [(0, va_rf v0)]) : W p l e (RM 3 h0) s m args below meth c H locs cells slots (MQT below g (qV K) E args s h0) (F0 m 26 ls []) := by
  have hx := X.hx
  have hb := X.hb
  unfold w_X8_lineBegins_J26 at hw
  refine r_aload_n X dX8_lineBegins_26 rfl (lv_at hl 0 rfl) ?_
  refine r_callV X hR (c_V (ci := 8) (q := (RX8, TX8, 32)) X hR hl.1 (c_X8_goesOn l g v0) (lw_V q1754 q1756 qs51 q125 q1757) rfl rfl mh_X8_goesOn rfl (by decide) (by decide) rfl (cat4 (Nat.le_of_ble_eq_true rfl)) dX8_lineBegins_27 hw) (fun _ h H locs cells slots hR hw => ?_)
  exact r_vret X hR rfl dX8_lineBegins_30 hw
theorem t_X8_lineBegins_J10 {p : Program} {l : Launch} {e : Env} {s : State} {m : MethodId} {args : Array Value} {below : List Frame} {meth : Method} {c : Code} {g : GT} {h0 : AH} {v0 : Option Nat} {K : Unit → AH → Prop} {E : Nat → AH → Prop} {h : AH} {H : Heap} {locs : List Loc} {cells slots : Nat} {ls : Array Slot} (X : Cx g h0 p s m args meth c RX8 cX8_lineBegins 3 none)  (hw : w_X8_lineBegins_J10 g v0 K E h) (hR : HS g s h H locs) (hl : lv_has ls 3 [(0, va_rf v0)]) : W p l e (RM 3 h0) s m args below meth c H locs cells slots (MQT below g (qV K) E args s h0) (F0 m 10 ls []) := by
  have hx := X.hx
  have hb := X.hb
  unfold w_X8_lineBegins_J10 at hw
  refine r_aload_n X dX8_lineBegins_10 rfl (lv_at hl 0 rfl) ?_
  refine r_gR X hR fk_X8_152 dX8_lineBegins_11 hw (fun x2 hw => ?_)
  refine r_gI X hR fk_X8_156 dX8_lineBegins_14 hw (fun x3 hw => ?_)
  refine lv_if_ne (tgt := 26) hx hb dX8_lineBegins_17 (by decide) (fun c4 => ?_) (fun c4 => ?_)
  · have hw := hw.1 c4
    exact t_X8_lineBegins_J26 X  hw hR (lv_sub hl [0] rfl)
  · have hw := hw.2 c4
    refine r_aload_n X dX8_lineBegins_20 rfl (lv_at hl 0 rfl) ?_
    refine lv_bipush (v := 6) hx hb dX8_lineBegins_21 (by decide) ?_
    refine r_callV X hR (c_V (ci := 8) (q := (RX8, TX8, 32)) X hR hl.1 (c_X8_flaw l g v0 6) (lw_V q1817 q1819 qs57 q125 q1820) rfl rfl mh_X8_flaw rfl (by decide) (by decide) rfl (cat4 (Nat.le_of_ble_eq_true rfl)) dX8_lineBegins_23 hw) (fun _ h H locs cells slots hR hw => ?_)
    exact t_X8_lineBegins_J26 X  hw hR (lv_sub hl [0] rfl)
theorem c_X8_lineBegins (l : Launch) (g : GT) (v0 : Option Nat) (v1 : Int32) (v2 : Int32) : CT qV l yX8_lineBegins (ws_ yX8_lineBegins cX8_lineBegins 3 none) 3 g [va_rf v0, .int v1, .int v2] (fun K E h => w_X8_lineBegins g v0 v1 v2 K E h) := by
  refine CT_of (lv := [(0, va_rf v0), (1, .int v1), (2, .int v2)]) (by decide +kernel) (by simp [lg_sl, cat_rf, cat_int, cat_long]) (by simp [lv_args, cat_rf, cat_int, cat_long]) (fun h0 K E p e s m args below meth c H locs cells slots ls X hxt hmn hw hR hl => ?_)
  have hx := X.hx
  have hb := X.hb
  unfold w_X8_lineBegins at hw
  refine lv_iload_n hx hb dX8_lineBegins_0 rfl (lv_at hl 1 rfl) ?_
  refine lv_iload_n hx hb dX8_lineBegins_1 rfl (lv_at hl 2 rfl) ?_
  refine lv_icmp_ne (tgt := 10) hx hb dX8_lineBegins_2 (by decide) (fun c1 => ?_) (fun c1 => ?_)
  · have hw := hw.1 c1
    exact t_X8_lineBegins_J10 X  hw hR (lv_sub hl [0] rfl)
  · have hw := hw.2 c1
    refine r_aload_n X dX8_lineBegins_5 rfl (lv_at hl 0 rfl) ?_
    refine lv_iconst (v := 5) hx hb dX8_lineBegins_6 (by decide) ?_
    refine r_callV X hR (c_V (ci := 8) (q := (RX8, TX8, 32)) X hR hl.1 (c_X8_flaw l g v0 5) (lw_V q1817 q1819 qs57 q125 q1820) rfl rfl mh_X8_flaw rfl (by decide) (by decide) rfl (cat4 (Nat.le_of_ble_eq_true rfl)) dX8_lineBegins_7 hw) (fun _ h H locs cells slots hR hw => ?_)
    exact t_X8_lineBegins_J10 X  hw hR (lv_sub hl [0] rfl)
theorem c_X8_isName (l : Launch) (g : GT) (v0 : Option Nat) : CT qI l yX8_isName (ws_ yX8_isName cX8_isName 1 (Option.some Jvm.ClassFile.FieldType.boolean)) 8 g [va_rf v0] (fun K E h => w_X8_isName g v0 K E h) := by
  refine CT_of (lv := [(0, va_rf v0)]) (by decide +kernel) (by simp [lg_sl, cat_rf, cat_int, cat_long]) (by simp [lv_args, cat_rf, cat_int, cat_long]) (fun h0 K E p e s m args below meth c H locs cells slots ls X hxt hmn hw hR hl => ?_)
  have hx := X.hx
  have hb := X.hb
  unfold w_X8_isName at hw
  refine r_aload_n X dX8_isName_0 rfl (lv_at hl 0 rfl) ?_
  refine r_gI X hR fk_X8_77 dX8_isName_1 hw (fun x1 hw => ?_)
  refine lv_iconst (v := 2) hx hb dX8_isName_4 (by decide) ?_
  refine lv_icmp_ne (tgt := 44) hx hb dX8_isName_5 (by decide) (fun c2 => ?_) (fun c2 => ?_)
  · have hw := hw.1 c2
    refine lv_iconst (v := 0) hx hb dX8_isName_44 (by decide) ?_
    exact r_zret X hR dX8_isName_45 hw
  · have hw := hw.2 c2
    refine r_aload_n X dX8_isName_8 rfl (lv_at hl 0 rfl) ?_
    refine r_ldcS X (tx := "county") (List.mem_of_getElem? (i := 23) rfl) dX8_isName_9 ?_
    refine r_callI X hR (c_V (ci := 8) (q := (RX8, TX8, 32)) X hR hl.1 (c_X8_isWord l g v0 (some (g.2.2.2.1 1))) (lw_V q1778 q1780 qs55 q125 q1781) rfl rfl mh_X8_isWord rfl (by decide) (by decide) rfl (cat4 (Nat.le_of_ble_eq_true rfl)) dX8_isName_11 hw) (fun x3 h H locs cells slots hR hw => ?_)
    refine lv_if_ne (tgt := 44) hx hb dX8_isName_14 (by decide) (fun c4 => ?_) (fun c4 => ?_)
    · have hw := hw.1 c4
      refine lv_iconst (v := 0) hx hb dX8_isName_44 (by decide) ?_
      exact r_zret X hR dX8_isName_45 hw
    · have hw := hw.2 c4
      refine r_aload_n X dX8_isName_17 rfl (lv_at hl 0 rfl) ?_
      refine r_ldcS X (tx := "person") (List.mem_of_getElem? (i := 24) rfl) dX8_isName_18 ?_
      refine r_callI X hR (c_V (ci := 8) (q := (RX8, TX8, 32)) X hR hl.1 (c_X8_isWord l g v0 (some (g.2.2.2.1 2))) (lw_V q1778 q1780 qs55 q125 q1781) rfl rfl mh_X8_isWord rfl (by decide) (by decide) rfl (cat4 (Nat.le_of_ble_eq_true rfl)) dX8_isName_20 hw) (fun x5 h H locs cells slots hR hw => ?_)
      refine lv_if_ne (tgt := 44) hx hb dX8_isName_23 (by decide) (fun c6 => ?_) (fun c6 => ?_)
      · have hw := hw.1 c6
        refine lv_iconst (v := 0) hx hb dX8_isName_44 (by decide) ?_
        exact r_zret X hR dX8_isName_45 hw
      · have hw := hw.2 c6
        refine r_aload_n X dX8_isName_26 rfl (lv_at hl 0 rfl) ?_
        refine r_ldcS X (tx := "umbrella") (List.mem_of_getElem? (i := 25) rfl) dX8_isName_27 ?_
        refine r_callI X hR (c_V (ci := 8) (q := (RX8, TX8, 32)) X hR hl.1 (c_X8_isWord l g v0 (some (g.2.2.2.1 3))) (lw_V q1778 q1780 qs55 q125 q1781) rfl rfl mh_X8_isWord rfl (by decide) (by decide) rfl (cat4 (Nat.le_of_ble_eq_true rfl)) dX8_isName_29 hw) (fun x7 h H locs cells slots hR hw => ?_)
        refine lv_if_ne (tgt := 44) hx hb dX8_isName_32 (by decide) (fun c8 => ?_) (fun c8 => ?_)
        · have hw := hw.1 c8
          refine lv_iconst (v := 0) hx hb dX8_isName_44 (by decide) ?_
          exact r_zret X hR dX8_isName_45 hw
        · have hw := hw.2 c8
          refine r_aload_n X dX8_isName_35 rfl (lv_at hl 0 rfl) ?_
          refine r_ldcS X (tx := "lent") (List.mem_of_getElem? (i := 26) rfl) dX8_isName_36 ?_
          refine r_callI X hR (c_V (ci := 8) (q := (RX8, TX8, 32)) X hR hl.1 (c_X8_isWord l g v0 (some (g.2.2.2.1 4))) (lw_V q1778 q1780 qs55 q125 q1781) rfl rfl mh_X8_isWord rfl (by decide) (by decide) rfl (cat4 (Nat.le_of_ble_eq_true rfl)) dX8_isName_38 hw) (fun x9 h H locs cells slots hR hw => ?_)
          refine lv_if_eq (tgt := 46) hx hb dX8_isName_41 (by decide) (fun c10 => ?_) (fun c10 => ?_)
          · have hw := hw.1 c10
            refine r_aload_n X dX8_isName_46 rfl (lv_at hl 0 rfl) ?_
            refine r_ldcS X (tx := "left") (List.mem_of_getElem? (i := 27) rfl) dX8_isName_47 ?_
            refine r_callI X hR (c_V (ci := 8) (q := (RX8, TX8, 32)) X hR hl.1 (c_X8_isWord l g v0 (some (g.2.2.2.1 5))) (lw_V q1778 q1780 qs55 q125 q1781) rfl rfl mh_X8_isWord rfl (by decide) (by decide) rfl (cat4 (Nat.le_of_ble_eq_true rfl)) dX8_isName_49 hw) (fun x11 h H locs cells slots hR hw => ?_)
            refine lv_if_ne (tgt := 86) hx hb dX8_isName_52 (by decide) (fun c12 => ?_) (fun c12 => ?_)
            · have hw := hw.1 c12
              refine lv_iconst (v := 0) hx hb dX8_isName_86 (by decide) ?_
              exact r_zret X hR dX8_isName_87 hw
            · have hw := hw.2 c12
              refine r_aload_n X dX8_isName_55 rfl (lv_at hl 0 rfl) ?_
              refine r_ldcS X (tx := "changed") (List.mem_of_getElem? (i := 28) rfl) dX8_isName_56 ?_
              refine r_callI X hR (c_V (ci := 8) (q := (RX8, TX8, 32)) X hR hl.1 (c_X8_isWord l g v0 (some (g.2.2.2.1 6))) (lw_V q1778 q1780 qs55 q125 q1781) rfl rfl mh_X8_isWord rfl (by decide) (by decide) rfl (cat4 (Nat.le_of_ble_eq_true rfl)) dX8_isName_58 hw) (fun x13 h H locs cells slots hR hw => ?_)
              refine lv_if_ne (tgt := 86) hx hb dX8_isName_61 (by decide) (fun c14 => ?_) (fun c14 => ?_)
              · have hw := hw.1 c14
                refine lv_iconst (v := 0) hx hb dX8_isName_86 (by decide) ?_
                exact r_zret X hR dX8_isName_87 hw
              · have hw := hw.2 c14
                refine r_aload_n X dX8_isName_64 rfl (lv_at hl 0 rfl) ?_
                refine r_ldcS X (tx := "rain") (List.mem_of_getElem? (i := 29) rfl) dX8_isName_65 ?_
                refine r_callI X hR (c_V (ci := 8) (q := (RX8, TX8, 32)) X hR hl.1 (c_X8_isWord l g v0 (some (g.2.2.2.1 7))) (lw_V q1778 q1780 qs55 q125 q1781) rfl rfl mh_X8_isWord rfl (by decide) (by decide) rfl (cat4 (Nat.le_of_ble_eq_true rfl)) dX8_isName_67 hw) (fun x15 h H locs cells slots hR hw => ?_)
                refine lv_if_ne (tgt := 86) hx hb dX8_isName_70 (by decide) (fun c16 => ?_) (fun c16 => ?_)
                · have hw := hw.1 c16
                  refine lv_iconst (v := 0) hx hb dX8_isName_86 (by decide) ?_
                  exact r_zret X hR dX8_isName_87 hw
                · have hw := hw.2 c16
                  refine r_aload_n X dX8_isName_73 rfl (lv_at hl 0 rfl) ?_
                  refine r_ldcS X (tx := "claims") (List.mem_of_getElem? (i := 30) rfl) dX8_isName_74 ?_
                  refine r_callI X hR (c_V (ci := 8) (q := (RX8, TX8, 32)) X hR hl.1 (c_X8_isWord l g v0 (some (g.2.2.2.1 8))) (lw_V q1778 q1780 qs55 q125 q1781) rfl rfl mh_X8_isWord rfl (by decide) (by decide) rfl (cat4 (Nat.le_of_ble_eq_true rfl)) dX8_isName_76 hw) (fun x17 h H locs cells slots hR hw => ?_)
                  refine lv_if_ne (tgt := 86) hx hb dX8_isName_79 (by decide) (fun c18 => ?_) (fun c18 => ?_)
                  · have hw := hw.1 c18
                    refine lv_iconst (v := 0) hx hb dX8_isName_86 (by decide) ?_
                    exact r_zret X hR dX8_isName_87 hw
                  · have hw := hw.2 c18
                    refine lv_iconst (v := 1) hx hb dX8_isName_82 (by decide) ?_
                    refine lv_goto (tgt := 87) hx hb dX8_isName_83 (by decide) ?_
                    exact r_zret X hR dX8_isName_87 hw
          · have hw := hw.2 c10
            refine lv_iconst (v := 0) hx hb dX8_isName_44 (by decide) ?_
            exact r_zret X hR dX8_isName_45 hw
theorem t_X8_readFresh_J32 {p : Program} {l : Launch} {e : Env} {s : State} {m : MethodId} {args : Array Value} {below : List Frame} {meth : Method} {c : Code} {g : GT} {h0 : AH} {v0 : Option Nat} {K : Int64 → AH → Prop} {E : Nat → AH → Prop} {h : AH} {H : Heap} {locs : List Loc} {cells slots : Nat} {ls : Array Slot} (X : Cx g h0 p s m args meth c RX8 cX8_readFresh 3 (Option.some Jvm.ClassFile.FieldType.long))  (hw : w_X8_readFresh_J32 g v0 K E h) (hR : HS g s h H locs) (hl : lv_has ls 3 [(0, va_rf v0)]) : W p l e (RM 9 h0) s m args below meth c H locs cells slots (MQT below g (qJ K) E args s h0) (F0 m 32 ls []) := by
  have hx := X.hx
  have hb := X.hb
  unfold w_X8_readFresh_J32 at hw
  refine r_aload_n X dX8_readFresh_32 rfl (lv_at hl 0 rfl) ?_
  refine r_gJ X hR fk_X8_93 dX8_readFresh_33 hw (fun x7 hw => ?_)
  refine lv_lstore_n (i := 1) (lv' := [(1, .long x7), (0, va_rf v0)]) hx hb dX8_readFresh_36 rfl hl (by decide) (by simp [cat_rf, cat_int, cat_long]) (fun ls hl => ?_)
  refine r_aload_n X dX8_readFresh_37 rfl (lv_at hl 1 rfl) ?_
  refine r_callV X hR (c_V (ci := 8) (q := (RX8, TX8, 32)) X hR hl.1 (c_X8_goesOn l g v0) (lw_V q1754 q1756 qs51 q125 q1757) rfl rfl mh_X8_goesOn rfl (by decide) (by decide) rfl (cat4 (Nat.le_of_ble_eq_true rfl)) dX8_readFresh_38 hw) (fun _ h H locs cells slots hR hw => ?_)
  refine lv_lload_n hx hb dX8_readFresh_41 rfl (lv_at hl 0 rfl) ?_
  exact r_lret X hR dX8_readFresh_42 hw
theorem t_X8_readFresh_J12 {p : Program} {l : Launch} {e : Env} {s : State} {m : MethodId} {args : Array Value} {below : List Frame} {meth : Method} {c : Code} {g : GT} {h0 : AH} {v0 : Option Nat} {K : Int64 → AH → Prop} {E : Nat → AH → Prop} {h : AH} {H : Heap} {locs : List Loc} {cells slots : Nat} {ls : Array Slot} (X : Cx g h0 p s m args meth c RX8 cX8_readFresh 3 (Option.some Jvm.ClassFile.FieldType.long))  (hw : w_X8_readFresh_J12 g v0 K E h) (hR : HS g s h H locs) (hl : lv_has ls 3 [(0, va_rf v0)]) : W p l e (RM 9 h0) s m args below meth c H locs cells slots (MQT below g (qJ K) E args s h0) (F0 m 12 ls []) := by
  have hx := X.hx
  have hb := X.hb
  unfold w_X8_readFresh_J12 at hw
  refine r_aload_n X dX8_readFresh_12 rfl (lv_at hl 0 rfl) ?_
  refine r_gR X hR fk_X8_152 dX8_readFresh_13 hw (fun x3 hw => ?_)
  refine r_aload_n X dX8_readFresh_16 rfl (lv_at hl 0 rfl) ?_
  refine r_gJ X hR fk_X8_93 dX8_readFresh_17 hw (fun x4 hw => ?_)
  refine r_callI X hR (c_V (ci := 26) (q := (RX26, TX26, 23)) X hR hl.1 (c_X26_find l g x3 x4) (lw_V q1862 q1863 q1864 q150 q1865) rfl rfl mh_X26_find rfl (by decide) (by decide) rfl (cat4 (Nat.le_of_ble_eq_true rfl)) dX8_readFresh_20 hw) (fun x5 h H locs cells slots hR hw => ?_)
  refine lv_iconst (v := (-1)) hx hb dX8_readFresh_23 (by decide) ?_
  refine lv_icmp_eq (tgt := 32) hx hb dX8_readFresh_24 (by decide) (fun c6 => ?_) (fun c6 => ?_)
  · have hw := hw.1 c6
    exact t_X8_readFresh_J32 X  hw hR (lv_sub hl [0] rfl)
  · have hw := hw.2 c6
    refine r_aload_n X dX8_readFresh_27 rfl (lv_at hl 0 rfl) ?_
    refine lv_iconst (v := 3) hx hb dX8_readFresh_28 (by decide) ?_
    refine r_callV X hR (c_V (ci := 8) (q := (RX8, TX8, 32)) X hR hl.1 (c_X8_flaw l g v0 3) (lw_V q1817 q1819 qs57 q125 q1820) rfl rfl mh_X8_flaw rfl (by decide) (by decide) rfl (cat4 (Nat.le_of_ble_eq_true rfl)) dX8_readFresh_29 hw) (fun _ h H locs cells slots hR hw => ?_)
    exact t_X8_readFresh_J32 X  hw hR (lv_sub hl [0] rfl)
theorem c_X8_readFresh (l : Launch) (g : GT) (v0 : Option Nat) : CT qJ l yX8_readFresh (ws_ yX8_readFresh cX8_readFresh 3 (Option.some Jvm.ClassFile.FieldType.long)) 9 g [va_rf v0] (fun K E h => w_X8_readFresh g v0 K E h) := by
  refine CT_of (lv := [(0, va_rf v0)]) (by decide +kernel) (by simp [lg_sl, cat_rf, cat_int, cat_long]) (by simp [lv_args, cat_rf, cat_int, cat_long]) (fun h0 K E p e s m args below meth c H locs cells slots ls X hxt hmn hw hR hl => ?_)
  have hx := X.hx
  have hb := X.hb
  unfold w_X8_readFresh at hw
  refine r_aload_n X dX8_readFresh_0 rfl (lv_at hl 0 rfl) ?_
  refine r_callI X hR (c_V (ci := 8) (q := (RX8, TX8, 32)) X hR hl.1 (c_X8_isName l g v0) (lw_V q1852 q1854 qs64 q125 q1855) rfl rfl mh_X8_isName rfl (by decide) (by decide) rfl (cat4 (Nat.le_of_ble_eq_true rfl)) dX8_readFresh_1 hw) (fun x1 h H locs cells slots hR hw => ?_)
  refine lv_if_ne (tgt := 12) hx hb dX8_readFresh_4 (by decide) (fun c2 => ?_) (fun c2 => ?_)
  · have hw := hw.1 c2
    exact t_X8_readFresh_J12 X  hw hR (lv_sub hl [0] rfl)
  · have hw := hw.2 c2
    refine r_aload_n X dX8_readFresh_7 rfl (lv_at hl 0 rfl) ?_
    refine lv_iconst (v := 1) hx hb dX8_readFresh_8 (by decide) ?_
    refine r_callV X hR (c_V (ci := 8) (q := (RX8, TX8, 32)) X hR hl.1 (c_X8_flaw l g v0 1) (lw_V q1817 q1819 qs57 q125 q1820) rfl rfl mh_X8_flaw rfl (by decide) (by decide) rfl (cat4 (Nat.le_of_ble_eq_true rfl)) dX8_readFresh_9 hw) (fun _ h H locs cells slots hR hw => ?_)
    exact t_X8_readFresh_J12 X  hw hR (lv_sub hl [0] rfl)
theorem c_X8_names (l : Launch) (g : GT) (v0 : Option Nat) (v1 : Int64) (v3 : Int32) (v4 : Int32) : CT qV l yX8_names (ws_ yX8_names cX8_names 5 none) 1 g [va_rf v0, .long v1, .int v3, .int v4] (fun K E h => w_X8_names g v0 v1 v3 v4 K E h) := by
  refine CT_of (lv := [(0, va_rf v0), (1, .long v1), (3, .int v3), (4, .int v4)]) (by decide +kernel) (by simp [lg_sl, cat_rf, cat_int, cat_long]) (by simp [lv_args, cat_rf, cat_int, cat_long]) (fun h0 K E p e s m args below meth c H locs cells slots ls X hxt hmn hw hR hl => ?_)
  have hx := X.hx
  have hb := X.hb
  unfold w_X8_names at hw
  refine r_aload_n X dX8_names_0 rfl (lv_at hl 0 rfl) ?_
  refine r_gR X hR fk_X8_152 dX8_names_1 hw (fun x1 hw => ?_)
  refine r_gR X hR fk_X8_169 dX8_names_4 hw (fun x2 hw => ?_)
  refine r_aload_n X dX8_names_7 rfl (lv_at hl 0 rfl) ?_
  refine r_gR X hR fk_X8_152 dX8_names_8 hw (fun x3 hw => ?_)
  refine r_gI X hR fk_X8_173 dX8_names_11 hw (fun x4 hw => ?_)
  refine lv_lload_n hx hb dX8_names_14 rfl (lv_at hl 1 rfl) ?_
  refine r_last X hR dX8_names_15 hw (fun H locs h hR hw => ?_)
  refine r_aload_n X dX8_names_16 rfl (lv_at hl 0 rfl) ?_
  refine r_gR X hR fk_X8_152 dX8_names_17 hw (fun x5 hw => ?_)
  refine r_gR X hR fk_X8_176 dX8_names_20 hw (fun x6 hw => ?_)
  refine r_aload_n X dX8_names_23 rfl (lv_at hl 0 rfl) ?_
  refine r_gR X hR fk_X8_152 dX8_names_24 hw (fun x7 hw => ?_)
  refine r_gI X hR fk_X8_173 dX8_names_27 hw (fun x8 hw => ?_)
  refine lv_iload_n hx hb dX8_names_30 rfl (lv_at hl 2 rfl) ?_
  refine r_iast X hR dX8_names_31 hw (fun H locs h hR hw => ?_)
  refine r_aload_n X dX8_names_32 rfl (lv_at hl 0 rfl) ?_
  refine r_gR X hR fk_X8_152 dX8_names_33 hw (fun x9 hw => ?_)
  refine r_gR X hR fk_X8_179 dX8_names_36 hw (fun x10 hw => ?_)
  refine r_aload_n X dX8_names_39 rfl (lv_at hl 0 rfl) ?_
  refine r_gR X hR fk_X8_152 dX8_names_40 hw (fun x11 hw => ?_)
  refine r_gI X hR fk_X8_173 dX8_names_43 hw (fun x12 hw => ?_)
  refine lv_iload hx hb dX8_names_46 (lv_at hl 3 rfl) ?_
  refine r_iast X hR dX8_names_48 hw (fun H locs h hR hw => ?_)
  refine r_aload_n X dX8_names_49 rfl (lv_at hl 0 rfl) ?_
  refine r_gR X hR fk_X8_152 dX8_names_50 hw (fun x13 hw => ?_)
  refine lv_dup hx hb dX8_names_53 (cat_rf _) ?_
  refine r_gI X hR fk_X8_173 dX8_names_54 hw (fun x14 hw => ?_)
  refine lv_iconst (v := 1) hx hb dX8_names_57 (by decide) ?_
  refine lv_iadd hx hb dX8_names_58 ?_
  refine r_put X hR fp_X8_173 (Or.inl fn_X8_173) (nf_int _) dX8_names_59 hw (fun H locs h hR hw => ?_)
  exact r_vret X hR rfl dX8_names_62 hw
theorem t_X8_readPerson_J69 {p : Program} {l : Launch} {e : Env} {s : State} {m : MethodId} {args : Array Value} {below : List Frame} {meth : Method} {c : Code} {g : GT} {h0 : AH} {v0 : Option Nat} {v1 : Int64} {v3 : Int32} {K : Unit → AH → Prop} {E : Nat → AH → Prop} {h : AH} {H : Heap} {locs : List Loc} {cells slots : Nat} {ls : Array Slot} (X : Cx g h0 p s m args meth c RX8 cX8_readPerson 4 none)  (hw : w_X8_readPerson_J69 g v0 v1 v3 K E h) (hR : HS g s h H locs) (hl : lv_has ls 4 [(0, va_rf v0), (1, .long v1), (3, .int v3)]) : W p l e (RM 10 h0) s m args below meth c H locs cells slots (MQT below g (qV K) E args s h0) (F0 m 69 ls []) := by
  have hx := X.hx
  have hb := X.hb
  unfold w_X8_readPerson_J69 at hw
  refine r_aload_n X dX8_readPerson_69 rfl (lv_at hl 0 rfl) ?_
  refine r_callV X hR (c_V (ci := 8) (q := (RX8, TX8, 32)) X hR hl.1 (c_X8_goesOn l g v0) (lw_V q1754 q1756 qs51 q125 q1757) rfl rfl mh_X8_goesOn rfl (by decide) (by decide) rfl (cat4 (Nat.le_of_ble_eq_true rfl)) dX8_readPerson_70 hw) (fun _ h H locs cells slots hR hw => ?_)
  refine r_aload_n X dX8_readPerson_73 rfl (lv_at hl 0 rfl) ?_
  refine r_gI X hR fk_X8_77 dX8_readPerson_74 hw (fun x11 hw => ?_)
  refine lv_iconst (v := 5) hx hb dX8_readPerson_77 (by decide) ?_
  refine lv_icmp_ne (tgt := 82) hx hb dX8_readPerson_78 (by decide) (fun c12 => ?_) (fun c12 => ?_)
  · have hw := hw.1 c12
    refine r_aload_n X dX8_readPerson_82 rfl (lv_at hl 0 rfl) ?_
    refine lv_lload_n hx hb dX8_readPerson_83 rfl (lv_at hl 1 rfl) ?_
    refine lv_iconst (v := 0) hx hb dX8_readPerson_84 (by decide) ?_
    refine r_aload_n X dX8_readPerson_85 rfl (lv_at hl 0 rfl) ?_
    refine r_gR X hR fk_X8_152 dX8_readPerson_86 hw (fun x13 hw => ?_)
    refine r_gI X hR fk_X8_191 dX8_readPerson_89 hw (fun x14 hw => ?_)
    refine r_callV X hR (c_V (ci := 8) (q := (RX8, TX8, 32)) X hR hl.1 (c_X8_names l g v0 v1 0 x14) (lw_V q1869 q1871 qs65 q125 q1872) rfl rfl mh_X8_names rfl (by decide) (by decide) rfl (cat4 (Nat.le_of_ble_eq_true rfl)) dX8_readPerson_92 hw) (fun _ h H locs cells slots hR hw => ?_)
    refine r_aload_n X dX8_readPerson_95 rfl (lv_at hl 0 rfl) ?_
    refine r_gR X hR fk_X8_152 dX8_readPerson_96 hw (fun x15 hw => ?_)
    refine r_gR X hR fk_X8_251 dX8_readPerson_99 hw (fun x16 hw => ?_)
    refine r_aload_n X dX8_readPerson_102 rfl (lv_at hl 0 rfl) ?_
    refine r_gR X hR fk_X8_152 dX8_readPerson_103 hw (fun x17 hw => ?_)
    refine r_gI X hR fk_X8_191 dX8_readPerson_106 hw (fun x18 hw => ?_)
    refine lv_iload_n hx hb dX8_readPerson_109 rfl (lv_at hl 2 rfl) ?_
    refine r_iast X hR dX8_readPerson_110 hw (fun H locs h hR hw => ?_)
    refine r_aload_n X dX8_readPerson_111 rfl (lv_at hl 0 rfl) ?_
    refine r_gR X hR fk_X8_152 dX8_readPerson_112 hw (fun x19 hw => ?_)
    refine lv_dup hx hb dX8_readPerson_115 (cat_rf _) ?_
    refine r_gI X hR fk_X8_191 dX8_readPerson_116 hw (fun x20 hw => ?_)
    refine lv_iconst (v := 1) hx hb dX8_readPerson_119 (by decide) ?_
    refine lv_iadd hx hb dX8_readPerson_120 ?_
    refine r_put X hR fp_X8_191 (Or.inl fn_X8_191) (nf_int _) dX8_readPerson_121 hw (fun H locs h hR hw => ?_)
    exact r_vret X hR rfl dX8_readPerson_124 hw
  · have hw := hw.2 c12
    exact r_vret X hR rfl dX8_readPerson_81 hw
theorem t_X8_readPerson_J58 {p : Program} {l : Launch} {e : Env} {s : State} {m : MethodId} {args : Array Value} {below : List Frame} {meth : Method} {c : Code} {g : GT} {h0 : AH} {v0 : Option Nat} {v1 : Int64} {s0 : Int32} {K : Unit → AH → Prop} {E : Nat → AH → Prop} {h : AH} {H : Heap} {locs : List Loc} {cells slots : Nat} {ls : Array Slot} (X : Cx g h0 p s m args meth c RX8 cX8_readPerson 4 none)  (hw : w_X8_readPerson_J58 g v0 v1 s0 K E h) (hR : HS g s h H locs) (hl : lv_has ls 4 [(0, va_rf v0), (1, .long v1)]) : W p l e (RM 10 h0) s m args below meth c H locs cells slots (MQT below g (qV K) E args s h0) (F0 m 58 ls [.int s0]) := by
  have hx := X.hx
  have hb := X.hb
  unfold w_X8_readPerson_J58 at hw
  refine lv_istore_n (i := 3) (lv' := [(3, .int s0), (0, va_rf v0), (1, .long v1)]) hx hb dX8_readPerson_58 rfl hl (by decide) rfl (fun ls hl => ?_)
  refine lv_iload_n hx hb dX8_readPerson_59 rfl (lv_at hl 0 rfl) ?_
  refine lv_iconst (v := (-1)) hx hb dX8_readPerson_60 (by decide) ?_
  refine lv_icmp_ne (tgt := 69) hx hb dX8_readPerson_61 (by decide) (fun c10 => ?_) (fun c10 => ?_)
  · have hw := hw.1 c10
    exact t_X8_readPerson_J69 X  hw hR (lv_sub hl [1, 2, 0] rfl)
  · have hw := hw.2 c10
    refine r_aload_n X dX8_readPerson_64 rfl (lv_at hl 1 rfl) ?_
    refine lv_iconst (v := 1) hx hb dX8_readPerson_65 (by decide) ?_
    refine r_callV X hR (c_V (ci := 8) (q := (RX8, TX8, 32)) X hR hl.1 (c_X8_flaw l g v0 1) (lw_V q1817 q1819 qs57 q125 q1820) rfl rfl mh_X8_flaw rfl (by decide) (by decide) rfl (cat4 (Nat.le_of_ble_eq_true rfl)) dX8_readPerson_66 hw) (fun _ h H locs cells slots hR hw => ?_)
    exact t_X8_readPerson_J69 X  hw hR (lv_sub hl [1, 2, 0] rfl)
theorem c_X8_readPerson (l : Launch) (g : GT) (v0 : Option Nat) : CT qV l yX8_readPerson (ws_ yX8_readPerson cX8_readPerson 4 none) 10 g [va_rf v0] (fun K E h => w_X8_readPerson g v0 K E h) := by
  refine CT_of (lv := [(0, va_rf v0)]) (by decide +kernel) (by simp [lg_sl, cat_rf, cat_int, cat_long]) (by simp [lv_args, cat_rf, cat_int, cat_long]) (fun h0 K E p e s m args below meth c H locs cells slots ls X hxt hmn hw hR hl => ?_)
  have hx := X.hx
  have hb := X.hb
  unfold w_X8_readPerson at hw
  refine r_aload_n X dX8_readPerson_0 rfl (lv_at hl 0 rfl) ?_
  refine r_aload_n X dX8_readPerson_1 rfl (lv_at hl 0 rfl) ?_
  refine r_gR X hR fk_X8_152 dX8_readPerson_2 hw (fun x1 hw => ?_)
  refine r_gI X hR fk_X8_191 dX8_readPerson_5 hw (fun x2 hw => ?_)
  refine lv_bipush (v := 6) hx hb dX8_readPerson_8 (by decide) ?_
  refine r_callV X hR (c_V (ci := 8) (q := (RX8, TX8, 32)) X hR hl.1 (c_X8_lineBegins l g v0 x2 6) (lw_V q1844 q1846 qs62 q125 q1847) rfl rfl mh_X8_lineBegins rfl (by decide) (by decide) rfl (cat4 (Nat.le_of_ble_eq_true rfl)) dX8_readPerson_10 hw) (fun _ h H locs cells slots hR hw => ?_)
  refine r_aload_n X dX8_readPerson_13 rfl (lv_at hl 0 rfl) ?_
  refine r_callJ X hR (c_V (ci := 8) (q := (RX8, TX8, 32)) X hR hl.1 (c_X8_readFresh l g v0) (lw_V q1848 q1850 qs63 q125 q1851) rfl rfl mh_X8_readFresh rfl (by decide) (by decide) rfl (cat4 (Nat.le_of_ble_eq_true rfl)) dX8_readPerson_14 hw) (fun x3 h H locs cells slots hR hw => ?_)
  refine lv_lstore_n (i := 1) (lv' := [(1, .long x3), (0, va_rf v0)]) hx hb dX8_readPerson_17 rfl hl (by decide) (by simp [cat_rf, cat_int, cat_long]) (fun ls hl => ?_)
  refine r_aload_n X dX8_readPerson_18 rfl (lv_at hl 1 rfl) ?_
  refine r_ldcS X (tx := "plain") (List.mem_of_getElem? (i := 34) rfl) dX8_readPerson_19 ?_
  refine r_callI X hR (c_V (ci := 8) (q := (RX8, TX8, 32)) X hR hl.1 (c_X8_isWord l g v0 (some (g.2.2.2.1 12))) (lw_V q1778 q1780 qs55 q125 q1781) rfl rfl mh_X8_isWord rfl (by decide) (by decide) rfl (cat4 (Nat.le_of_ble_eq_true rfl)) dX8_readPerson_21 hw) (fun x4 h H locs cells slots hR hw => ?_)
  refine lv_if_eq (tgt := 31) hx hb dX8_readPerson_24 (by decide) (fun c5 => ?_) (fun c5 => ?_)
  · have hw := hw.1 c5
    refine r_aload_n X dX8_readPerson_31 rfl (lv_at hl 1 rfl) ?_
    refine r_ldcS X (tx := "child") (List.mem_of_getElem? (i := 35) rfl) dX8_readPerson_32 ?_
    refine r_callI X hR (c_V (ci := 8) (q := (RX8, TX8, 32)) X hR hl.1 (c_X8_isWord l g v0 (some (g.2.2.2.1 13))) (lw_V q1778 q1780 qs55 q125 q1781) rfl rfl mh_X8_isWord rfl (by decide) (by decide) rfl (cat4 (Nat.le_of_ble_eq_true rfl)) dX8_readPerson_34 hw) (fun x6 h H locs cells slots hR hw => ?_)
    refine lv_if_eq (tgt := 44) hx hb dX8_readPerson_37 (by decide) (fun c7 => ?_) (fun c7 => ?_)
    · have hw := hw.1 c7
      refine r_aload_n X dX8_readPerson_44 rfl (lv_at hl 1 rfl) ?_
      refine r_ldcS X (tx := "careless") (List.mem_of_getElem? (i := 36) rfl) dX8_readPerson_45 ?_
      refine r_callI X hR (c_V (ci := 8) (q := (RX8, TX8, 32)) X hR hl.1 (c_X8_isWord l g v0 (some (g.2.2.2.1 14))) (lw_V q1778 q1780 qs55 q125 q1781) rfl rfl mh_X8_isWord rfl (by decide) (by decide) rfl (cat4 (Nat.le_of_ble_eq_true rfl)) dX8_readPerson_47 hw) (fun x8 h H locs cells slots hR hw => ?_)
      refine lv_if_eq (tgt := 57) hx hb dX8_readPerson_50 (by decide) (fun c9 => ?_) (fun c9 => ?_)
      · have hw := hw.1 c9
        refine lv_iconst (v := (-1)) hx hb dX8_readPerson_57 (by decide) ?_
        exact t_X8_readPerson_J58 X  hw hR (lv_sub hl [1, 0] rfl)
      · have hw := hw.2 c9
        refine lv_iconst (v := 2) hx hb dX8_readPerson_53 (by decide) ?_
        refine lv_goto (tgt := 58) hx hb dX8_readPerson_54 (by decide) ?_
        exact t_X8_readPerson_J58 X  hw hR (lv_sub hl [1, 0] rfl)
    · have hw := hw.2 c7
      refine lv_iconst (v := 1) hx hb dX8_readPerson_40 (by decide) ?_
      refine lv_goto (tgt := 58) hx hb dX8_readPerson_41 (by decide) ?_
      exact t_X8_readPerson_J58 X  hw hR (lv_sub hl [1, 0] rfl)
  · have hw := hw.2 c5
    refine lv_iconst (v := 0) hx hb dX8_readPerson_27 (by decide) ?_
    refine lv_goto (tgt := 58) hx hb dX8_readPerson_28 (by decide) ?_
    exact t_X8_readPerson_J58 X  hw hR (lv_sub hl [1, 0] rfl)
theorem t_X8_knownOne_J47 {p : Program} {l : Launch} {e : Env} {s : State} {m : MethodId} {args : Array Value} {below : List Frame} {meth : Method} {c : Code} {g : GT} {h0 : AH} {v0 : Option Nat} {v2 : Int32} {K : Int32 → AH → Prop} {E : Nat → AH → Prop} {h : AH} {H : Heap} {locs : List Loc} {cells slots : Nat} {ls : Array Slot} (X : Cx g h0 p s m args meth c RX8 cX8_knownOne 3 (Option.some Jvm.ClassFile.FieldType.int))  (hw : w_X8_knownOne_J47 g v0 v2 K E h) (hR : HS g s h H locs) (hl : lv_has ls 3 [(0, va_rf v0), (2, .int v2)]) : W p l e (RM 9 h0) s m args below meth c H locs cells slots (MQT below g (qI K) E args s h0) (F0 m 47 ls []) := by
  have hx := X.hx
  have hb := X.hb
  unfold w_X8_knownOne_J47 at hw
  refine r_aload_n X dX8_knownOne_47 rfl (lv_at hl 0 rfl) ?_
  refine r_gI X hR fk_X8_77 dX8_knownOne_48 hw (fun x7 hw => ?_)
  refine lv_iconst (v := 5) hx hb dX8_knownOne_51 (by decide) ?_
  refine lv_icmp_ne (tgt := 59) hx hb dX8_knownOne_52 (by decide) (fun c8 => ?_) (fun c8 => ?_)
  · have hw := hw.1 c8
    refine r_aload_n X dX8_knownOne_59 rfl (lv_at hl 0 rfl) ?_
    refine r_gR X hR fk_X8_152 dX8_knownOne_60 hw (fun x9 hw => ?_)
    refine r_gR X hR fk_X8_179 dX8_knownOne_63 hw (fun x10 hw => ?_)
    refine lv_iload_n hx hb dX8_knownOne_66 rfl (lv_at hl 1 rfl) ?_
    refine r_iald X hR dX8_knownOne_67 hw (fun x11 hw => ?_)
    exact r_iret X hR dX8_knownOne_68 hw
  · have hw := hw.2 c8
    refine lv_iconst (v := 0) hx hb dX8_knownOne_55 (by decide) ?_
    refine lv_goto (tgt := 68) hx hb dX8_knownOne_56 (by decide) ?_
    exact r_iret X hR dX8_knownOne_68 hw
theorem t_X8_knownOne_J42 {p : Program} {l : Launch} {e : Env} {s : State} {m : MethodId} {args : Array Value} {below : List Frame} {meth : Method} {c : Code} {g : GT} {h0 : AH} {v0 : Option Nat} {v2 : Int32} {K : Int32 → AH → Prop} {E : Nat → AH → Prop} {h : AH} {H : Heap} {locs : List Loc} {cells slots : Nat} {ls : Array Slot} (X : Cx g h0 p s m args meth c RX8 cX8_knownOne 3 (Option.some Jvm.ClassFile.FieldType.int))  (hw : w_X8_knownOne_J42 g v0 v2 K E h) (hR : HS g s h H locs) (hl : lv_has ls 3 [(0, va_rf v0), (2, .int v2)]) : W p l e (RM 9 h0) s m args below meth c H locs cells slots (MQT below g (qI K) E args s h0) (F0 m 42 ls []) := by
  have hx := X.hx
  have hb := X.hb
  unfold w_X8_knownOne_J42 at hw
  refine r_aload_n X dX8_knownOne_42 rfl (lv_at hl 0 rfl) ?_
  refine lv_iconst (v := 2) hx hb dX8_knownOne_43 (by decide) ?_
  refine r_callV X hR (c_V (ci := 8) (q := (RX8, TX8, 32)) X hR hl.1 (c_X8_flaw l g v0 2) (lw_V q1817 q1819 qs57 q125 q1820) rfl rfl mh_X8_flaw rfl (by decide) (by decide) rfl (cat4 (Nat.le_of_ble_eq_true rfl)) dX8_knownOne_44 hw) (fun _ h H locs cells slots hR hw => ?_)
  exact t_X8_knownOne_J47 X  hw hR (lv_sub hl [0, 1] rfl)
theorem t_X8_knownOne_J12 {p : Program} {l : Launch} {e : Env} {s : State} {m : MethodId} {args : Array Value} {below : List Frame} {meth : Method} {c : Code} {g : GT} {h0 : AH} {v0 : Option Nat} {v1 : Int32} {K : Int32 → AH → Prop} {E : Nat → AH → Prop} {h : AH} {H : Heap} {locs : List Loc} {cells slots : Nat} {ls : Array Slot} (X : Cx g h0 p s m args meth c RX8 cX8_knownOne 3 (Option.some Jvm.ClassFile.FieldType.int))  (hw : w_X8_knownOne_J12 g v0 v1 K E h) (hR : HS g s h H locs) (hl : lv_has ls 3 [(0, va_rf v0), (1, .int v1)]) : W p l e (RM 9 h0) s m args below meth c H locs cells slots (MQT below g (qI K) E args s h0) (F0 m 12 ls []) := by
  have hx := X.hx
  have hb := X.hb
  unfold w_X8_knownOne_J12 at hw
  refine r_aload_n X dX8_knownOne_12 rfl (lv_at hl 0 rfl) ?_
  refine r_gR X hR fk_X8_152 dX8_knownOne_13 hw (fun x3 hw => ?_)
  refine r_aload_n X dX8_knownOne_16 rfl (lv_at hl 0 rfl) ?_
  refine r_gJ X hR fk_X8_93 dX8_knownOne_17 hw (fun x4 hw => ?_)
  refine r_callI X hR (c_V (ci := 26) (q := (RX26, TX26, 23)) X hR hl.1 (c_X26_find l g x3 x4) (lw_V q1862 q1863 q1864 q150 q1865) rfl rfl mh_X26_find rfl (by decide) (by decide) rfl (cat4 (Nat.le_of_ble_eq_true rfl)) dX8_knownOne_20 hw) (fun x5 h H locs cells slots hR hw => ?_)
  refine lv_istore_n (i := 2) (lv' := [(2, .int x5), (0, va_rf v0), (1, .int v1)]) hx hb dX8_knownOne_23 rfl hl (by decide) rfl (fun ls hl => ?_)
  refine lv_iload_n hx hb dX8_knownOne_24 rfl (lv_at hl 0 rfl) ?_
  refine lv_iconst (v := (-1)) hx hb dX8_knownOne_25 (by decide) ?_
  refine lv_icmp_eq (tgt := 42) hx hb dX8_knownOne_26 (by decide) (fun c6 => ?_) (fun c6 => ?_)
  · have hw := hw.1 c6
    exact t_X8_knownOne_J42 X  hw hR (lv_sub hl [1, 0] rfl)
  · have hw := hw.2 c6
    refine r_aload_n X dX8_knownOne_29 rfl (lv_at hl 1 rfl) ?_
    refine r_gR X hR fk_X8_152 dX8_knownOne_30 hw (fun x12 hw => ?_)
    refine r_gR X hR fk_X8_176 dX8_knownOne_33 hw (fun x13 hw => ?_)
    refine lv_iload_n hx hb dX8_knownOne_36 rfl (lv_at hl 0 rfl) ?_
    refine r_iald X hR dX8_knownOne_37 hw (fun x14 hw => ?_)
    refine lv_iload_n hx hb dX8_knownOne_38 rfl (lv_at hl 2 rfl) ?_
    refine lv_icmp_eq (tgt := 47) hx hb dX8_knownOne_39 (by decide) (fun c15 => ?_) (fun c15 => ?_)
    · have hw := hw.1 c15
      exact t_X8_knownOne_J47 X  hw hR (lv_sub hl [1, 0] rfl)
    · have hw := hw.2 c15
      exact t_X8_knownOne_J42 X  hw hR (lv_sub hl [1, 0] rfl)
theorem c_X8_knownOne (l : Launch) (g : GT) (v0 : Option Nat) (v1 : Int32) : CT qI l yX8_knownOne (ws_ yX8_knownOne cX8_knownOne 3 (Option.some Jvm.ClassFile.FieldType.int)) 9 g [va_rf v0, .int v1] (fun K E h => w_X8_knownOne g v0 v1 K E h) := by
  refine CT_of (lv := [(0, va_rf v0), (1, .int v1)]) (by decide +kernel) (by simp [lg_sl, cat_rf, cat_int, cat_long]) (by simp [lv_args, cat_rf, cat_int, cat_long]) (fun h0 K E p e s m args below meth c H locs cells slots ls X hxt hmn hw hR hl => ?_)
  have hx := X.hx
  have hb := X.hb
  unfold w_X8_knownOne at hw
  refine r_aload_n X dX8_knownOne_0 rfl (lv_at hl 0 rfl) ?_
  refine r_callI X hR (c_V (ci := 8) (q := (RX8, TX8, 32)) X hR hl.1 (c_X8_isName l g v0) (lw_V q1852 q1854 qs64 q125 q1855) rfl rfl mh_X8_isName rfl (by decide) (by decide) rfl (cat4 (Nat.le_of_ble_eq_true rfl)) dX8_knownOne_1 hw) (fun x1 h H locs cells slots hR hw => ?_)
  refine lv_if_ne (tgt := 12) hx hb dX8_knownOne_4 (by decide) (fun c2 => ?_) (fun c2 => ?_)
  · have hw := hw.1 c2
    exact t_X8_knownOne_J12 X  hw hR (lv_sub hl [0, 1] rfl)
  · have hw := hw.2 c2
    refine r_aload_n X dX8_knownOne_7 rfl (lv_at hl 0 rfl) ?_
    refine lv_iconst (v := 1) hx hb dX8_knownOne_8 (by decide) ?_
    refine r_callV X hR (c_V (ci := 8) (q := (RX8, TX8, 32)) X hR hl.1 (c_X8_flaw l g v0 1) (lw_V q1817 q1819 qs57 q125 q1820) rfl rfl mh_X8_flaw rfl (by decide) (by decide) rfl (cat4 (Nat.le_of_ble_eq_true rfl)) dX8_knownOne_9 hw) (fun _ h H locs cells slots hR hw => ?_)
    exact t_X8_knownOne_J12 X  hw hR (lv_sub hl [0, 1] rfl)
theorem c_X8_readKnown (l : Launch) (g : GT) (v0 : Option Nat) (v1 : Int32) : CT qI l yX8_readKnown (ws_ yX8_readKnown cX8_readKnown 3 (Option.some Jvm.ClassFile.FieldType.int)) 10 g [va_rf v0, .int v1] (fun K E h => w_X8_readKnown g v0 v1 K E h) := by
  refine CT_of (lv := [(0, va_rf v0), (1, .int v1)]) (by decide +kernel) (by simp [lg_sl, cat_rf, cat_int, cat_long]) (by simp [lv_args, cat_rf, cat_int, cat_long]) (fun h0 K E p e s m args below meth c H locs cells slots ls X hxt hmn hw hR hl => ?_)
  have hx := X.hx
  have hb := X.hb
  unfold w_X8_readKnown at hw
  refine r_aload_n X dX8_readKnown_0 rfl (lv_at hl 0 rfl) ?_
  refine lv_iload_n hx hb dX8_readKnown_1 rfl (lv_at hl 1 rfl) ?_
  refine r_callI X hR (c_V (ci := 8) (q := (RX8, TX8, 32)) X hR hl.1 (c_X8_knownOne l g v0 v1) (lw_V q1888 q1890 qs68 q125 q1891) rfl rfl mh_X8_knownOne rfl (by decide) (by decide) rfl (cat4 (Nat.le_of_ble_eq_true rfl)) dX8_readKnown_2 hw) (fun x1 h H locs cells slots hR hw => ?_)
  refine lv_istore_n (i := 2) (lv' := [(2, .int x1), (0, va_rf v0), (1, .int v1)]) hx hb dX8_readKnown_5 rfl hl (by decide) rfl (fun ls hl => ?_)
  refine r_aload_n X dX8_readKnown_6 rfl (lv_at hl 1 rfl) ?_
  refine r_callV X hR (c_V (ci := 8) (q := (RX8, TX8, 32)) X hR hl.1 (c_X8_goesOn l g v0) (lw_V q1754 q1756 qs51 q125 q1757) rfl rfl mh_X8_goesOn rfl (by decide) (by decide) rfl (cat4 (Nat.le_of_ble_eq_true rfl)) dX8_readKnown_7 hw) (fun _ h H locs cells slots hR hw => ?_)
  refine lv_iload_n hx hb dX8_readKnown_10 rfl (lv_at hl 0 rfl) ?_
  exact r_iret X hR dX8_readKnown_11 hw
theorem t_X8_readUmbrella_J136 {p : Program} {l : Launch} {e : Env} {s : State} {m : MethodId} {args : Array Value} {below : List Frame} {meth : Method} {c : Code} {g : GT} {h0 : AH} {v0 : Option Nat} {v1 : Int64} {v3 : Int32} {v4 : Int32} {v5 : Int32} {v6 : Int32} {K : Unit → AH → Prop} {E : Nat → AH → Prop} {h : AH} {H : Heap} {locs : List Loc} {cells slots : Nat} {ls : Array Slot} (X : Cx g h0 p s m args meth c RX8 cX8_readUmbrella 8 none)  (hw : w_X8_readUmbrella_J136 g v0 v1 v3 v4 v5 v6 K E h) (hR : HS g s h H locs) (hl : lv_has ls 8 [(0, va_rf v0), (1, .long v1), (3, .int v3), (4, .int v4), (5, .int v5), (6, .int v6)]) : W p l e (RM 11 h0) s m args below meth c H locs cells slots (MQT below g (qV K) E args s h0) (F0 m 136 ls []) := by
  have hx := X.hx
  have hb := X.hb
  unfold w_X8_readUmbrella_J136 at hw
  refine r_aload_n X dX8_readUmbrella_136 rfl (lv_at hl 0 rfl) ?_
  refine r_gI X hR fk_X8_77 dX8_readUmbrella_137 hw (fun x17 hw => ?_)
  refine lv_iconst (v := 5) hx hb dX8_readUmbrella_140 (by decide) ?_
  refine lv_icmp_ne (tgt := 145) hx hb dX8_readUmbrella_141 (by decide) (fun c18 => ?_) (fun c18 => ?_)
  · have hw := hw.1 c18
    refine r_aload_n X dX8_readUmbrella_145 rfl (lv_at hl 0 rfl) ?_
    refine r_gR X hR fk_X8_152 dX8_readUmbrella_146 hw (fun x19 hw => ?_)
    refine r_gI X hR fk_X8_194 dX8_readUmbrella_149 hw (fun x20 hw => ?_)
    refine lv_istore (i := 7) (lv' := [(7, .int x20), (0, va_rf v0), (1, .long v1), (3, .int v3), (4, .int v4), (5, .int v5), (6, .int v6)]) hx hb dX8_readUmbrella_152 hl (by decide) rfl (fun ls hl => ?_)
    refine r_aload_n X dX8_readUmbrella_154 rfl (lv_at hl 1 rfl) ?_
    refine lv_lload_n hx hb dX8_readUmbrella_155 rfl (lv_at hl 2 rfl) ?_
    refine lv_iconst (v := 1) hx hb dX8_readUmbrella_156 (by decide) ?_
    refine lv_iload hx hb dX8_readUmbrella_157 (lv_at hl 0 rfl) ?_
    refine r_callV X hR (c_V (ci := 8) (q := (RX8, TX8, 32)) X hR hl.1 (c_X8_names l g v0 v1 1 x20) (lw_V q1869 q1871 qs65 q125 q1872) rfl rfl mh_X8_names rfl (by decide) (by decide) rfl (cat4 (Nat.le_of_ble_eq_true rfl)) dX8_readUmbrella_159 hw) (fun _ h H locs cells slots hR hw => ?_)
    refine r_aload_n X dX8_readUmbrella_162 rfl (lv_at hl 1 rfl) ?_
    refine r_gR X hR fk_X8_152 dX8_readUmbrella_163 hw (fun x21 hw => ?_)
    refine r_gR X hR fk_X8_270 dX8_readUmbrella_166 hw (fun x22 hw => ?_)
    refine lv_iload hx hb dX8_readUmbrella_169 (lv_at hl 0 rfl) ?_
    refine lv_iload_n hx hb dX8_readUmbrella_171 rfl (lv_at hl 3 rfl) ?_
    refine r_iast X hR dX8_readUmbrella_172 hw (fun H locs h hR hw => ?_)
    refine r_aload_n X dX8_readUmbrella_173 rfl (lv_at hl 1 rfl) ?_
    refine r_gR X hR fk_X8_152 dX8_readUmbrella_174 hw (fun x23 hw => ?_)
    refine r_gR X hR fk_X8_273 dX8_readUmbrella_177 hw (fun x24 hw => ?_)
    refine lv_iload hx hb dX8_readUmbrella_180 (lv_at hl 0 rfl) ?_
    refine lv_iload hx hb dX8_readUmbrella_182 (lv_at hl 4 rfl) ?_
    refine r_iast X hR dX8_readUmbrella_184 hw (fun H locs h hR hw => ?_)
    refine r_aload_n X dX8_readUmbrella_185 rfl (lv_at hl 1 rfl) ?_
    refine r_gR X hR fk_X8_152 dX8_readUmbrella_186 hw (fun x25 hw => ?_)
    refine r_gR X hR fk_X8_275 dX8_readUmbrella_189 hw (fun x26 hw => ?_)
    refine lv_iload hx hb dX8_readUmbrella_192 (lv_at hl 0 rfl) ?_
    refine lv_iload hx hb dX8_readUmbrella_194 (lv_at hl 5 rfl) ?_
    refine r_iast X hR dX8_readUmbrella_196 hw (fun H locs h hR hw => ?_)
    refine r_aload_n X dX8_readUmbrella_197 rfl (lv_at hl 1 rfl) ?_
    refine r_gR X hR fk_X8_152 dX8_readUmbrella_198 hw (fun x27 hw => ?_)
    refine r_gR X hR fk_X8_277 dX8_readUmbrella_201 hw (fun x28 hw => ?_)
    refine lv_iload hx hb dX8_readUmbrella_204 (lv_at hl 0 rfl) ?_
    refine lv_iload hx hb dX8_readUmbrella_206 (lv_at hl 6 rfl) ?_
    refine r_iast X hR dX8_readUmbrella_208 hw (fun H locs h hR hw => ?_)
    refine r_aload_n X dX8_readUmbrella_209 rfl (lv_at hl 1 rfl) ?_
    refine r_gR X hR fk_X8_152 dX8_readUmbrella_210 hw (fun x29 hw => ?_)
    refine lv_dup hx hb dX8_readUmbrella_213 (cat_rf _) ?_
    refine r_gI X hR fk_X8_194 dX8_readUmbrella_214 hw (fun x30 hw => ?_)
    refine lv_iconst (v := 1) hx hb dX8_readUmbrella_217 (by decide) ?_
    refine lv_iadd hx hb dX8_readUmbrella_218 ?_
    refine r_put X hR fp_X8_194 (Or.inl fn_X8_194) (nf_int _) dX8_readUmbrella_219 hw (fun H locs h hR hw => ?_)
    exact r_vret X hR rfl dX8_readUmbrella_222 hw
  · have hw := hw.2 c18
    exact r_vret X hR rfl dX8_readUmbrella_144 hw
theorem t_X8_readUmbrella_J83 {p : Program} {l : Launch} {e : Env} {s : State} {m : MethodId} {args : Array Value} {below : List Frame} {meth : Method} {c : Code} {g : GT} {h0 : AH} {v0 : Option Nat} {v1 : Int64} {v3 : Int32} {K : Unit → AH → Prop} {E : Nat → AH → Prop} {h : AH} {H : Heap} {locs : List Loc} {cells slots : Nat} {ls : Array Slot} (X : Cx g h0 p s m args meth c RX8 cX8_readUmbrella 8 none)  (hw : w_X8_readUmbrella_J83 g v0 v1 v3 K E h) (hR : HS g s h H locs) (hl : lv_has ls 8 [(0, va_rf v0), (1, .long v1), (3, .int v3)]) : W p l e (RM 11 h0) s m args below meth c H locs cells slots (MQT below g (qV K) E args s h0) (F0 m 83 ls []) := by
  have hx := X.hx
  have hb := X.hb
  unfold w_X8_readUmbrella_J83 at hw
  refine r_aload_n X dX8_readUmbrella_83 rfl (lv_at hl 0 rfl) ?_
  refine r_callV X hR (c_V (ci := 8) (q := (RX8, TX8, 32)) X hR hl.1 (c_X8_goesOn l g v0) (lw_V q1754 q1756 qs51 q125 q1757) rfl rfl mh_X8_goesOn rfl (by decide) (by decide) rfl (cat4 (Nat.le_of_ble_eq_true rfl)) dX8_readUmbrella_84 hw) (fun _ h H locs cells slots hR hw => ?_)
  refine r_aload_n X dX8_readUmbrella_87 rfl (lv_at hl 0 rfl) ?_
  refine r_ldcWS X (tx := "lands") (List.mem_of_getElem? (i := 41) rfl) dX8_readUmbrella_88 ?_
  refine lv_iconst (v := 0) hx hb dX8_readUmbrella_91 (by decide) ?_
  refine lv_bipush (v := 99) hx hb dX8_readUmbrella_92 (by decide) ?_
  refine r_callI X hR (c_V (ci := 8) (q := (RX8, TX8, 32)) X hR hl.1 (c_X8_readPart l g v0 (some (g.2.2.2.1 19)) 0 99) (lw_V q1822 q1824 qs58 q125 q1825) rfl rfl mh_X8_readPart rfl (by decide) (by decide) rfl (cat4 (Nat.le_of_ble_eq_true rfl)) dX8_readUmbrella_94 hw) (fun x13 h H locs cells slots hR hw => ?_)
  refine lv_istore (i := 4) (lv' := [(4, .int x13), (0, va_rf v0), (1, .long v1), (3, .int v3)]) hx hb dX8_readUmbrella_97 hl (by decide) rfl (fun ls hl => ?_)
  refine r_aload_n X dX8_readUmbrella_99 rfl (lv_at hl 1 rfl) ?_
  refine r_ldcWS X (tx := "ribs") (List.mem_of_getElem? (i := 42) rfl) dX8_readUmbrella_100 ?_
  refine lv_iconst (v := 4) hx hb dX8_readUmbrella_103 (by decide) ?_
  refine lv_bipush (v := 12) hx hb dX8_readUmbrella_104 (by decide) ?_
  refine r_callI X hR (c_V (ci := 8) (q := (RX8, TX8, 32)) X hR hl.1 (c_X8_readPart l g v0 (some (g.2.2.2.1 20)) 4 12) (lw_V q1822 q1824 qs58 q125 q1825) rfl rfl mh_X8_readPart rfl (by decide) (by decide) rfl (cat4 (Nat.le_of_ble_eq_true rfl)) dX8_readUmbrella_106 hw) (fun x14 h H locs cells slots hR hw => ?_)
  refine lv_istore (i := 5) (lv' := [(5, .int x14), (4, .int x13), (0, va_rf v0), (1, .long v1), (3, .int v3)]) hx hb dX8_readUmbrella_109 hl (by decide) rfl (fun ls hl => ?_)
  refine lv_bipush (v := (-2)) hx hb dX8_readUmbrella_111 (by decide) ?_
  refine lv_istore (i := 6) (lv' := [(6, .int (-2)), (5, .int x14), (4, .int x13), (0, va_rf v0), (1, .long v1), (3, .int v3)]) hx hb dX8_readUmbrella_113 hl (by decide) rfl (fun ls hl => ?_)
  refine r_aload_n X dX8_readUmbrella_115 rfl (lv_at hl 3 rfl) ?_
  refine r_ldcWS X (tx := "with") (List.mem_of_getElem? (i := 43) rfl) dX8_readUmbrella_116 ?_
  refine r_callI X hR (c_V (ci := 8) (q := (RX8, TX8, 32)) X hR hl.1 (c_X8_isWord l g v0 (some (g.2.2.2.1 21))) (lw_V q1778 q1780 qs55 q125 q1781) rfl rfl mh_X8_isWord rfl (by decide) (by decide) rfl (cat4 (Nat.le_of_ble_eq_true rfl)) dX8_readUmbrella_119 hw) (fun x15 h H locs cells slots hR hw => ?_)
  refine lv_if_eq (tgt := 136) hx hb dX8_readUmbrella_122 (by decide) (fun c16 => ?_) (fun c16 => ?_)
  · have hw := hw.1 c16
    exact t_X8_readUmbrella_J136 X  hw hR (lv_sub hl [3, 4, 5, 2, 1, 0] rfl)
  · have hw := hw.2 c16
    refine r_aload_n X dX8_readUmbrella_125 rfl (lv_at hl 3 rfl) ?_
    refine r_callV X hR (c_V (ci := 8) (q := (RX8, TX8, 32)) X hR hl.1 (c_X8_goesOn l g v0) (lw_V q1754 q1756 qs51 q125 q1757) rfl rfl mh_X8_goesOn rfl (by decide) (by decide) rfl (cat4 (Nat.le_of_ble_eq_true rfl)) dX8_readUmbrella_126 hw) (fun _ h H locs cells slots hR hw => ?_)
    refine r_aload_n X dX8_readUmbrella_129 rfl (lv_at hl 3 rfl) ?_
    refine lv_iconst (v := 0) hx hb dX8_readUmbrella_130 (by decide) ?_
    refine r_callI X hR (c_V (ci := 8) (q := (RX8, TX8, 32)) X hR hl.1 (c_X8_readKnown l g v0 0) (lw_V q1884 q1886 qs67 q125 q1887) rfl rfl mh_X8_readKnown rfl (by decide) (by decide) rfl (cat4 (Nat.le_of_ble_eq_true rfl)) dX8_readUmbrella_131 hw) (fun x31 h H locs cells slots hR hw => ?_)
    refine lv_istore (i := 6) (lv' := [(6, .int x31), (5, .int x14), (4, .int x13), (0, va_rf v0), (1, .long v1), (3, .int v3)]) hx hb dX8_readUmbrella_134 hl (by decide) rfl (fun ls hl => ?_)
    exact t_X8_readUmbrella_J136 X  hw hR (lv_sub hl [3, 4, 5, 2, 1, 0] rfl)
theorem t_X8_readUmbrella_J72 {p : Program} {l : Launch} {e : Env} {s : State} {m : MethodId} {args : Array Value} {below : List Frame} {meth : Method} {c : Code} {g : GT} {h0 : AH} {v0 : Option Nat} {v1 : Int64} {s0 : Int32} {K : Unit → AH → Prop} {E : Nat → AH → Prop} {h : AH} {H : Heap} {locs : List Loc} {cells slots : Nat} {ls : Array Slot} (X : Cx g h0 p s m args meth c RX8 cX8_readUmbrella 8 none)  (hw : w_X8_readUmbrella_J72 g v0 v1 s0 K E h) (hR : HS g s h H locs) (hl : lv_has ls 8 [(0, va_rf v0), (1, .long v1)]) : W p l e (RM 11 h0) s m args below meth c H locs cells slots (MQT below g (qV K) E args s h0) (F0 m 72 ls [.int s0]) := by
  have hx := X.hx
  have hb := X.hb
  unfold w_X8_readUmbrella_J72 at hw
  refine lv_istore_n (i := 3) (lv' := [(3, .int s0), (0, va_rf v0), (1, .long v1)]) hx hb dX8_readUmbrella_72 rfl hl (by decide) rfl (fun ls hl => ?_)
  refine lv_iload_n hx hb dX8_readUmbrella_73 rfl (lv_at hl 0 rfl) ?_
  refine lv_iconst (v := (-1)) hx hb dX8_readUmbrella_74 (by decide) ?_
  refine lv_icmp_ne (tgt := 83) hx hb dX8_readUmbrella_75 (by decide) (fun c12 => ?_) (fun c12 => ?_)
  · have hw := hw.1 c12
    exact t_X8_readUmbrella_J83 X  hw hR (lv_sub hl [1, 2, 0] rfl)
  · have hw := hw.2 c12
    refine r_aload_n X dX8_readUmbrella_78 rfl (lv_at hl 1 rfl) ?_
    refine lv_iconst (v := 1) hx hb dX8_readUmbrella_79 (by decide) ?_
    refine r_callV X hR (c_V (ci := 8) (q := (RX8, TX8, 32)) X hR hl.1 (c_X8_flaw l g v0 1) (lw_V q1817 q1819 qs57 q125 q1820) rfl rfl mh_X8_flaw rfl (by decide) (by decide) rfl (cat4 (Nat.le_of_ble_eq_true rfl)) dX8_readUmbrella_80 hw) (fun _ h H locs cells slots hR hw => ?_)
    exact t_X8_readUmbrella_J83 X  hw hR (lv_sub hl [1, 2, 0] rfl)
theorem c_X8_readUmbrella (l : Launch) (g : GT) (v0 : Option Nat) : CT qV l yX8_readUmbrella (ws_ yX8_readUmbrella cX8_readUmbrella 8 none) 11 g [va_rf v0] (fun K E h => w_X8_readUmbrella g v0 K E h) := by
  refine CT_of (lv := [(0, va_rf v0)]) (by decide +kernel) (by simp [lg_sl, cat_rf, cat_int, cat_long]) (by simp [lv_args, cat_rf, cat_int, cat_long]) (fun h0 K E p e s m args below meth c H locs cells slots ls X hxt hmn hw hR hl => ?_)
  have hx := X.hx
  have hb := X.hb
  unfold w_X8_readUmbrella at hw
  refine r_aload_n X dX8_readUmbrella_0 rfl (lv_at hl 0 rfl) ?_
  refine r_aload_n X dX8_readUmbrella_1 rfl (lv_at hl 0 rfl) ?_
  refine r_gR X hR fk_X8_152 dX8_readUmbrella_2 hw (fun x1 hw => ?_)
  refine r_gI X hR fk_X8_194 dX8_readUmbrella_5 hw (fun x2 hw => ?_)
  refine lv_iconst (v := 5) hx hb dX8_readUmbrella_8 (by decide) ?_
  refine r_callV X hR (c_V (ci := 8) (q := (RX8, TX8, 32)) X hR hl.1 (c_X8_lineBegins l g v0 x2 5) (lw_V q1844 q1846 qs62 q125 q1847) rfl rfl mh_X8_lineBegins rfl (by decide) (by decide) rfl (cat4 (Nat.le_of_ble_eq_true rfl)) dX8_readUmbrella_9 hw) (fun _ h H locs cells slots hR hw => ?_)
  refine r_aload_n X dX8_readUmbrella_12 rfl (lv_at hl 0 rfl) ?_
  refine r_callJ X hR (c_V (ci := 8) (q := (RX8, TX8, 32)) X hR hl.1 (c_X8_readFresh l g v0) (lw_V q1848 q1850 qs63 q125 q1851) rfl rfl mh_X8_readFresh rfl (by decide) (by decide) rfl (cat4 (Nat.le_of_ble_eq_true rfl)) dX8_readUmbrella_13 hw) (fun x3 h H locs cells slots hR hw => ?_)
  refine lv_lstore_n (i := 1) (lv' := [(1, .long x3), (0, va_rf v0)]) hx hb dX8_readUmbrella_16 rfl hl (by decide) (by simp [cat_rf, cat_int, cat_long]) (fun ls hl => ?_)
  refine r_aload_n X dX8_readUmbrella_17 rfl (lv_at hl 1 rfl) ?_
  refine r_ldcS X (tx := "silk") (List.mem_of_getElem? (i := 37) rfl) dX8_readUmbrella_18 ?_
  refine r_callI X hR (c_V (ci := 8) (q := (RX8, TX8, 32)) X hR hl.1 (c_X8_isWord l g v0 (some (g.2.2.2.1 15))) (lw_V q1778 q1780 qs55 q125 q1781) rfl rfl mh_X8_isWord rfl (by decide) (by decide) rfl (cat4 (Nat.le_of_ble_eq_true rfl)) dX8_readUmbrella_20 hw) (fun x4 h H locs cells slots hR hw => ?_)
  refine lv_if_eq (tgt := 30) hx hb dX8_readUmbrella_23 (by decide) (fun c5 => ?_) (fun c5 => ?_)
  · have hw := hw.1 c5
    refine r_aload_n X dX8_readUmbrella_30 rfl (lv_at hl 1 rfl) ?_
    refine r_ldcS X (tx := "cotton") (List.mem_of_getElem? (i := 38) rfl) dX8_readUmbrella_31 ?_
    refine r_callI X hR (c_V (ci := 8) (q := (RX8, TX8, 32)) X hR hl.1 (c_X8_isWord l g v0 (some (g.2.2.2.1 16))) (lw_V q1778 q1780 qs55 q125 q1781) rfl rfl mh_X8_isWord rfl (by decide) (by decide) rfl (cat4 (Nat.le_of_ble_eq_true rfl)) dX8_readUmbrella_33 hw) (fun x6 h H locs cells slots hR hw => ?_)
    refine lv_if_eq (tgt := 43) hx hb dX8_readUmbrella_36 (by decide) (fun c7 => ?_) (fun c7 => ?_)
    · have hw := hw.1 c7
      refine r_aload_n X dX8_readUmbrella_43 rfl (lv_at hl 1 rfl) ?_
      refine r_ldcWS X (tx := "stick") (List.mem_of_getElem? (i := 39) rfl) dX8_readUmbrella_44 ?_
      refine r_callI X hR (c_V (ci := 8) (q := (RX8, TX8, 32)) X hR hl.1 (c_X8_isWord l g v0 (some (g.2.2.2.1 17))) (lw_V q1778 q1780 qs55 q125 q1781) rfl rfl mh_X8_isWord rfl (by decide) (by decide) rfl (cat4 (Nat.le_of_ble_eq_true rfl)) dX8_readUmbrella_47 hw) (fun x8 h H locs cells slots hR hw => ?_)
      refine lv_if_eq (tgt := 57) hx hb dX8_readUmbrella_50 (by decide) (fun c9 => ?_) (fun c9 => ?_)
      · have hw := hw.1 c9
        refine r_aload_n X dX8_readUmbrella_57 rfl (lv_at hl 1 rfl) ?_
        refine r_ldcWS X (tx := "parasol") (List.mem_of_getElem? (i := 40) rfl) dX8_readUmbrella_58 ?_
        refine r_callI X hR (c_V (ci := 8) (q := (RX8, TX8, 32)) X hR hl.1 (c_X8_isWord l g v0 (some (g.2.2.2.1 18))) (lw_V q1778 q1780 qs55 q125 q1781) rfl rfl mh_X8_isWord rfl (by decide) (by decide) rfl (cat4 (Nat.le_of_ble_eq_true rfl)) dX8_readUmbrella_61 hw) (fun x10 h H locs cells slots hR hw => ?_)
        refine lv_if_eq (tgt := 71) hx hb dX8_readUmbrella_64 (by decide) (fun c11 => ?_) (fun c11 => ?_)
        · have hw := hw.1 c11
          refine lv_iconst (v := (-1)) hx hb dX8_readUmbrella_71 (by decide) ?_
          exact t_X8_readUmbrella_J72 X  hw hR (lv_sub hl [1, 0] rfl)
        · have hw := hw.2 c11
          refine lv_iconst (v := 3) hx hb dX8_readUmbrella_67 (by decide) ?_
          refine lv_goto (tgt := 72) hx hb dX8_readUmbrella_68 (by decide) ?_
          exact t_X8_readUmbrella_J72 X  hw hR (lv_sub hl [1, 0] rfl)
      · have hw := hw.2 c9
        refine lv_iconst (v := 2) hx hb dX8_readUmbrella_53 (by decide) ?_
        refine lv_goto (tgt := 72) hx hb dX8_readUmbrella_54 (by decide) ?_
        exact t_X8_readUmbrella_J72 X  hw hR (lv_sub hl [1, 0] rfl)
    · have hw := hw.2 c7
      refine lv_iconst (v := 1) hx hb dX8_readUmbrella_39 (by decide) ?_
      refine lv_goto (tgt := 72) hx hb dX8_readUmbrella_40 (by decide) ?_
      exact t_X8_readUmbrella_J72 X  hw hR (lv_sub hl [1, 0] rfl)
  · have hw := hw.2 c5
    refine lv_iconst (v := 0) hx hb dX8_readUmbrella_26 (by decide) ?_
    refine lv_goto (tgt := 72) hx hb dX8_readUmbrella_27 (by decide) ?_
    exact t_X8_readUmbrella_J72 X  hw hR (lv_sub hl [1, 0] rfl)
theorem t_X8_logs_J31 {p : Program} {l : Launch} {e : Env} {s : State} {m : MethodId} {args : Array Value} {below : List Frame} {meth : Method} {c : Code} {g : GT} {h0 : AH} {v0 : Option Nat} {v1 : Int32} {v2 : Int32} {v3 : Int32} {s0 : Int32} {K : Unit → AH → Prop} {E : Nat → AH → Prop} {h : AH} {H : Heap} {locs : List Loc} {cells slots : Nat} {ls : Array Slot} (X : Cx g h0 p s m args meth c RX8 cX8_logs 6 none)  (hw : w_X8_logs_J31 g v0 v1 v2 v3 s0 K E h) (hR : HS g s h H locs) (hl : lv_has ls 6 [(0, va_rf v0), (1, .int v1), (2, .int v2), (3, .int v3)]) : W p l e (RM 10 h0) s m args below meth c H locs cells slots (MQT below g (qV K) E args s h0) (F0 m 31 ls [.int s0]) := by
  have hx := X.hx
  have hb := X.hb
  unfold w_X8_logs_J31 at hw
  refine lv_istore (i := 4) (lv' := [(4, .int s0), (0, va_rf v0), (1, .int v1), (2, .int v2), (3, .int v3)]) hx hb dX8_logs_31 hl (by decide) rfl (fun ls hl => ?_)
  refine r_aload_n X dX8_logs_33 rfl (lv_at hl 1 rfl) ?_
  refine r_ldcWS X (tx := "day") (List.mem_of_getElem? (i := 44) rfl) dX8_logs_34 ?_
  refine lv_iload hx hb dX8_logs_37 (lv_at hl 0 rfl) ?_
  refine lv_bipush (v := 40) hx hb dX8_logs_39 (by decide) ?_
  refine r_callI X hR (c_V (ci := 8) (q := (RX8, TX8, 32)) X hR hl.1 (c_X8_readPart l g v0 (some (g.2.2.2.1 22)) s0 40) (lw_V q1822 q1824 qs58 q125 q1825) rfl rfl mh_X8_readPart rfl (by decide) (by decide) rfl (cat4 (Nat.le_of_ble_eq_true rfl)) dX8_logs_41 hw) (fun x9 h H locs cells slots hR hw => ?_)
  refine lv_istore (i := 5) (lv' := [(5, .int x9), (4, .int s0), (0, va_rf v0), (1, .int v1), (2, .int v2), (3, .int v3)]) hx hb dX8_logs_44 hl (by decide) rfl (fun ls hl => ?_)
  refine r_aload_n X dX8_logs_46 rfl (lv_at hl 2 rfl) ?_
  refine r_gI X hR fk_X8_77 dX8_logs_47 hw (fun x10 hw => ?_)
  refine lv_iconst (v := 5) hx hb dX8_logs_50 (by decide) ?_
  refine lv_icmp_ne (tgt := 55) hx hb dX8_logs_51 (by decide) (fun c11 => ?_) (fun c11 => ?_)
  · have hw := hw.1 c11
    refine r_aload_n X dX8_logs_55 rfl (lv_at hl 2 rfl) ?_
    refine r_gR X hR fk_X8_152 dX8_logs_56 hw (fun x12 hw => ?_)
    refine r_gR X hR fk_X8_286 dX8_logs_59 hw (fun x13 hw => ?_)
    refine r_aload_n X dX8_logs_62 rfl (lv_at hl 2 rfl) ?_
    refine r_gR X hR fk_X8_152 dX8_logs_63 hw (fun x14 hw => ?_)
    refine r_gI X hR fk_X8_279 dX8_logs_66 hw (fun x15 hw => ?_)
    refine lv_iload_n hx hb dX8_logs_69 rfl (lv_at hl 3 rfl) ?_
    refine r_iast X hR dX8_logs_70 hw (fun H locs h hR hw => ?_)
    refine r_aload_n X dX8_logs_71 rfl (lv_at hl 2 rfl) ?_
    refine r_gR X hR fk_X8_152 dX8_logs_72 hw (fun x16 hw => ?_)
    refine r_gR X hR fk_X8_289 dX8_logs_75 hw (fun x17 hw => ?_)
    refine r_aload_n X dX8_logs_78 rfl (lv_at hl 2 rfl) ?_
    refine r_gR X hR fk_X8_152 dX8_logs_79 hw (fun x18 hw => ?_)
    refine r_gI X hR fk_X8_279 dX8_logs_82 hw (fun x19 hw => ?_)
    refine lv_iload_n hx hb dX8_logs_85 rfl (lv_at hl 4 rfl) ?_
    refine r_iast X hR dX8_logs_86 hw (fun H locs h hR hw => ?_)
    refine r_aload_n X dX8_logs_87 rfl (lv_at hl 2 rfl) ?_
    refine r_gR X hR fk_X8_152 dX8_logs_88 hw (fun x20 hw => ?_)
    refine r_gR X hR fk_X8_292 dX8_logs_91 hw (fun x21 hw => ?_)
    refine r_aload_n X dX8_logs_94 rfl (lv_at hl 2 rfl) ?_
    refine r_gR X hR fk_X8_152 dX8_logs_95 hw (fun x22 hw => ?_)
    refine r_gI X hR fk_X8_279 dX8_logs_98 hw (fun x23 hw => ?_)
    refine lv_iload_n hx hb dX8_logs_101 rfl (lv_at hl 5 rfl) ?_
    refine r_iast X hR dX8_logs_102 hw (fun H locs h hR hw => ?_)
    refine r_aload_n X dX8_logs_103 rfl (lv_at hl 2 rfl) ?_
    refine r_gR X hR fk_X8_152 dX8_logs_104 hw (fun x24 hw => ?_)
    refine r_gR X hR fk_X8_282 dX8_logs_107 hw (fun x25 hw => ?_)
    refine r_aload_n X dX8_logs_110 rfl (lv_at hl 2 rfl) ?_
    refine r_gR X hR fk_X8_152 dX8_logs_111 hw (fun x26 hw => ?_)
    refine r_gI X hR fk_X8_279 dX8_logs_114 hw (fun x27 hw => ?_)
    refine lv_iload hx hb dX8_logs_117 (lv_at hl 0 rfl) ?_
    refine r_iast X hR dX8_logs_119 hw (fun H locs h hR hw => ?_)
    refine r_aload_n X dX8_logs_120 rfl (lv_at hl 2 rfl) ?_
    refine r_gR X hR fk_X8_152 dX8_logs_121 hw (fun x28 hw => ?_)
    refine lv_dup hx hb dX8_logs_124 (cat_rf _) ?_
    refine r_gI X hR fk_X8_279 dX8_logs_125 hw (fun x29 hw => ?_)
    refine lv_iconst (v := 1) hx hb dX8_logs_128 (by decide) ?_
    refine lv_iadd hx hb dX8_logs_129 ?_
    refine r_put X hR fp_X8_279 (Or.inl fn_X8_279) (nf_int _) dX8_logs_130 hw (fun H locs h hR hw => ?_)
    exact r_vret X hR rfl dX8_logs_133 hw
  · have hw := hw.2 c11
    exact r_vret X hR rfl dX8_logs_54 hw
theorem c_X8_logs (l : Launch) (g : GT) (v0 : Option Nat) (v1 : Int32) (v2 : Int32) (v3 : Int32) : CT qV l yX8_logs (ws_ yX8_logs cX8_logs 6 none) 10 g [va_rf v0, .int v1, .int v2, .int v3] (fun K E h => w_X8_logs g v0 v1 v2 v3 K E h) := by
  refine CT_of (lv := [(0, va_rf v0), (1, .int v1), (2, .int v2), (3, .int v3)]) (by decide +kernel) (by simp [lg_sl, cat_rf, cat_int, cat_long]) (by simp [lv_args, cat_rf, cat_int, cat_long]) (fun h0 K E p e s m args below meth c H locs cells slots ls X hxt hmn hw hR hl => ?_)
  have hx := X.hx
  have hb := X.hb
  unfold w_X8_logs at hw
  refine r_aload_n X dX8_logs_0 rfl (lv_at hl 0 rfl) ?_
  refine r_gR X hR fk_X8_152 dX8_logs_1 hw (fun x1 hw => ?_)
  refine r_gI X hR fk_X8_279 dX8_logs_4 hw (fun x2 hw => ?_)
  refine lv_if_ne (tgt := 14) hx hb dX8_logs_7 (by decide) (fun c3 => ?_) (fun c3 => ?_)
  · have hw := hw.1 c3
    refine r_aload_n X dX8_logs_14 rfl (lv_at hl 0 rfl) ?_
    refine r_gR X hR fk_X8_152 dX8_logs_15 hw (fun x4 hw => ?_)
    refine r_gR X hR fk_X8_282 dX8_logs_18 hw (fun x5 hw => ?_)
    refine r_aload_n X dX8_logs_21 rfl (lv_at hl 0 rfl) ?_
    refine r_gR X hR fk_X8_152 dX8_logs_22 hw (fun x6 hw => ?_)
    refine r_gI X hR fk_X8_279 dX8_logs_25 hw (fun x7 hw => ?_)
    refine lv_iconst (v := 1) hx hb dX8_logs_28 (by decide) ?_
    refine lv_isub hx hb dX8_logs_29 ?_
    refine r_iald X hR dX8_logs_30 hw (fun x8 hw => ?_)
    exact t_X8_logs_J31 X  hw hR (lv_sub hl [0, 1, 2, 3] rfl)
  · have hw := hw.2 c3
    refine lv_iconst (v := 0) hx hb dX8_logs_10 (by decide) ?_
    refine lv_goto (tgt := 31) hx hb dX8_logs_11 (by decide) ?_
    exact t_X8_logs_J31 X  hw hR (lv_sub hl [0, 1, 2, 3] rfl)
theorem c_X8_readLent (l : Launch) (g : GT) (v0 : Option Nat) : CT qV l yX8_readLent (ws_ yX8_readLent cX8_readLent 3 none) 11 g [va_rf v0] (fun K E h => w_X8_readLent g v0 K E h) := by
  refine CT_of (lv := [(0, va_rf v0)]) (by decide +kernel) (by simp [lg_sl, cat_rf, cat_int, cat_long]) (by simp [lv_args, cat_rf, cat_int, cat_long]) (fun h0 K E p e s m args below meth c H locs cells slots ls X hxt hmn hw hR hl => ?_)
  have hx := X.hx
  have hb := X.hb
  unfold w_X8_readLent at hw
  refine r_aload_n X dX8_readLent_0 rfl (lv_at hl 0 rfl) ?_
  refine r_aload_n X dX8_readLent_1 rfl (lv_at hl 0 rfl) ?_
  refine r_gR X hR fk_X8_152 dX8_readLent_2 hw (fun x1 hw => ?_)
  refine r_gI X hR fk_X8_279 dX8_readLent_5 hw (fun x2 hw => ?_)
  refine lv_bipush (v := 16) hx hb dX8_readLent_8 (by decide) ?_
  refine r_callV X hR (c_V (ci := 8) (q := (RX8, TX8, 32)) X hR hl.1 (c_X8_lineBegins l g v0 x2 16) (lw_V q1844 q1846 qs62 q125 q1847) rfl rfl mh_X8_lineBegins rfl (by decide) (by decide) rfl (cat4 (Nat.le_of_ble_eq_true rfl)) dX8_readLent_10 hw) (fun _ h H locs cells slots hR hw => ?_)
  refine r_aload_n X dX8_readLent_13 rfl (lv_at hl 0 rfl) ?_
  refine lv_iconst (v := 1) hx hb dX8_readLent_14 (by decide) ?_
  refine r_callI X hR (c_V (ci := 8) (q := (RX8, TX8, 32)) X hR hl.1 (c_X8_readKnown l g v0 1) (lw_V q1884 q1886 qs67 q125 q1887) rfl rfl mh_X8_readKnown rfl (by decide) (by decide) rfl (cat4 (Nat.le_of_ble_eq_true rfl)) dX8_readLent_15 hw) (fun x3 h H locs cells slots hR hw => ?_)
  refine lv_istore_n (i := 1) (lv' := [(1, .int x3), (0, va_rf v0)]) hx hb dX8_readLent_18 rfl hl (by decide) (by simp [cat_rf, cat_int, cat_long]) (fun ls hl => ?_)
  refine r_aload_n X dX8_readLent_19 rfl (lv_at hl 1 rfl) ?_
  refine lv_iconst (v := 0) hx hb dX8_readLent_20 (by decide) ?_
  refine r_callI X hR (c_V (ci := 8) (q := (RX8, TX8, 32)) X hR hl.1 (c_X8_readKnown l g v0 0) (lw_V q1884 q1886 qs67 q125 q1887) rfl rfl mh_X8_readKnown rfl (by decide) (by decide) rfl (cat4 (Nat.le_of_ble_eq_true rfl)) dX8_readLent_21 hw) (fun x4 h H locs cells slots hR hw => ?_)
  refine lv_istore_n (i := 2) (lv' := [(2, .int x4), (1, .int x3), (0, va_rf v0)]) hx hb dX8_readLent_24 rfl hl (by decide) rfl (fun ls hl => ?_)
  refine r_aload_n X dX8_readLent_25 rfl (lv_at hl 2 rfl) ?_
  refine lv_iconst (v := 0) hx hb dX8_readLent_26 (by decide) ?_
  refine lv_iload_n hx hb dX8_readLent_27 rfl (lv_at hl 1 rfl) ?_
  refine lv_iload_n hx hb dX8_readLent_28 rfl (lv_at hl 0 rfl) ?_
  refine r_callV X hR (c_V (ci := 8) (q := (RX8, TX8, 32)) X hR hl.1 (c_X8_logs l g v0 0 x3 x4) (lw_V q1896 q1898 qs70 q125 q1899) rfl rfl mh_X8_logs rfl (by decide) (by decide) rfl (cat4 (Nat.le_of_ble_eq_true rfl)) dX8_readLent_29 hw) (fun _ h H locs cells slots hR hw => ?_)
  exact r_vret X hR rfl dX8_readLent_32 hw
theorem c_X8_readLeft (l : Launch) (g : GT) (v0 : Option Nat) : CT qV l yX8_readLeft (ws_ yX8_readLeft cX8_readLeft 2 none) 11 g [va_rf v0] (fun K E h => w_X8_readLeft g v0 K E h) := by
  refine CT_of (lv := [(0, va_rf v0)]) (by decide +kernel) (by simp [lg_sl, cat_rf, cat_int, cat_long]) (by simp [lv_args, cat_rf, cat_int, cat_long]) (fun h0 K E p e s m args below meth c H locs cells slots ls X hxt hmn hw hR hl => ?_)
  have hx := X.hx
  have hb := X.hb
  unfold w_X8_readLeft at hw
  refine r_aload_n X dX8_readLeft_0 rfl (lv_at hl 0 rfl) ?_
  refine r_aload_n X dX8_readLeft_1 rfl (lv_at hl 0 rfl) ?_
  refine r_gR X hR fk_X8_152 dX8_readLeft_2 hw (fun x1 hw => ?_)
  refine r_gI X hR fk_X8_279 dX8_readLeft_5 hw (fun x2 hw => ?_)
  refine lv_bipush (v := 16) hx hb dX8_readLeft_8 (by decide) ?_
  refine r_callV X hR (c_V (ci := 8) (q := (RX8, TX8, 32)) X hR hl.1 (c_X8_lineBegins l g v0 x2 16) (lw_V q1844 q1846 qs62 q125 q1847) rfl rfl mh_X8_lineBegins rfl (by decide) (by decide) rfl (cat4 (Nat.le_of_ble_eq_true rfl)) dX8_readLeft_10 hw) (fun _ h H locs cells slots hR hw => ?_)
  refine r_aload_n X dX8_readLeft_13 rfl (lv_at hl 0 rfl) ?_
  refine lv_iconst (v := 1) hx hb dX8_readLeft_14 (by decide) ?_
  refine r_callI X hR (c_V (ci := 8) (q := (RX8, TX8, 32)) X hR hl.1 (c_X8_readKnown l g v0 1) (lw_V q1884 q1886 qs67 q125 q1887) rfl rfl mh_X8_readKnown rfl (by decide) (by decide) rfl (cat4 (Nat.le_of_ble_eq_true rfl)) dX8_readLeft_15 hw) (fun x3 h H locs cells slots hR hw => ?_)
  refine lv_istore_n (i := 1) (lv' := [(1, .int x3), (0, va_rf v0)]) hx hb dX8_readLeft_18 rfl hl (by decide) (by simp [cat_rf, cat_int, cat_long]) (fun ls hl => ?_)
  refine r_aload_n X dX8_readLeft_19 rfl (lv_at hl 1 rfl) ?_
  refine lv_iconst (v := 1) hx hb dX8_readLeft_20 (by decide) ?_
  refine lv_iload_n hx hb dX8_readLeft_21 rfl (lv_at hl 0 rfl) ?_
  refine lv_iconst (v := 0) hx hb dX8_readLeft_22 (by decide) ?_
  refine r_callV X hR (c_V (ci := 8) (q := (RX8, TX8, 32)) X hR hl.1 (c_X8_logs l g v0 1 x3 0) (lw_V q1896 q1898 qs70 q125 q1899) rfl rfl mh_X8_logs rfl (by decide) (by decide) rfl (cat4 (Nat.le_of_ble_eq_true rfl)) dX8_readLeft_23 hw) (fun _ h H locs cells slots hR hw => ?_)
  exact r_vret X hR rfl dX8_readLeft_26 hw
theorem t_X8_readChanged_J43 {p : Program} {l : Launch} {e : Env} {s : State} {m : MethodId} {args : Array Value} {below : List Frame} {meth : Method} {c : Code} {g : GT} {h0 : AH} {v0 : Option Nat} {v1 : Int32} {v2 : Int32} {K : Unit → AH → Prop} {E : Nat → AH → Prop} {h : AH} {H : Heap} {locs : List Loc} {cells slots : Nat} {ls : Array Slot} (X : Cx g h0 p s m args meth c RX8 cX8_readChanged 3 none)  (hw : w_X8_readChanged_J43 g v0 v1 v2 K E h) (hR : HS g s h H locs) (hl : lv_has ls 3 [(0, va_rf v0), (1, .int v1), (2, .int v2)]) : W p l e (RM 11 h0) s m args below meth c H locs cells slots (MQT below g (qV K) E args s h0) (F0 m 43 ls []) := by
  have hx := X.hx
  have hb := X.hb
  unfold w_X8_readChanged_J43 at hw
  refine r_aload_n X dX8_readChanged_43 rfl (lv_at hl 0 rfl) ?_
  refine r_callV X hR (c_V (ci := 8) (q := (RX8, TX8, 32)) X hR hl.1 (c_X8_goesOn l g v0) (lw_V q1754 q1756 qs51 q125 q1757) rfl rfl mh_X8_goesOn rfl (by decide) (by decide) rfl (cat4 (Nat.le_of_ble_eq_true rfl)) dX8_readChanged_44 hw) (fun _ h H locs cells slots hR hw => ?_)
  refine r_aload_n X dX8_readChanged_47 rfl (lv_at hl 0 rfl) ?_
  refine lv_iconst (v := 2) hx hb dX8_readChanged_48 (by decide) ?_
  refine lv_iload_n hx hb dX8_readChanged_49 rfl (lv_at hl 1 rfl) ?_
  refine lv_iload_n hx hb dX8_readChanged_50 rfl (lv_at hl 2 rfl) ?_
  refine r_callV X hR (c_V (ci := 8) (q := (RX8, TX8, 32)) X hR hl.1 (c_X8_logs l g v0 2 v1 v2) (lw_V q1896 q1898 qs70 q125 q1899) rfl rfl mh_X8_logs rfl (by decide) (by decide) rfl (cat4 (Nat.le_of_ble_eq_true rfl)) dX8_readChanged_51 hw) (fun _ h H locs cells slots hR hw => ?_)
  exact r_vret X hR rfl dX8_readChanged_54 hw
theorem c_X8_readChanged (l : Launch) (g : GT) (v0 : Option Nat) : CT qV l yX8_readChanged (ws_ yX8_readChanged cX8_readChanged 3 none) 11 g [va_rf v0] (fun K E h => w_X8_readChanged g v0 K E h) := by
  refine CT_of (lv := [(0, va_rf v0)]) (by decide +kernel) (by simp [lg_sl, cat_rf, cat_int, cat_long]) (by simp [lv_args, cat_rf, cat_int, cat_long]) (fun h0 K E p e s m args below meth c H locs cells slots ls X hxt hmn hw hR hl => ?_)
  have hx := X.hx
  have hb := X.hb
  unfold w_X8_readChanged at hw
  refine r_aload_n X dX8_readChanged_0 rfl (lv_at hl 0 rfl) ?_
  refine r_aload_n X dX8_readChanged_1 rfl (lv_at hl 0 rfl) ?_
  refine r_gR X hR fk_X8_152 dX8_readChanged_2 hw (fun x1 hw => ?_)
  refine r_gI X hR fk_X8_279 dX8_readChanged_5 hw (fun x2 hw => ?_)
  refine lv_bipush (v := 16) hx hb dX8_readChanged_8 (by decide) ?_
  refine r_callV X hR (c_V (ci := 8) (q := (RX8, TX8, 32)) X hR hl.1 (c_X8_lineBegins l g v0 x2 16) (lw_V q1844 q1846 qs62 q125 q1847) rfl rfl mh_X8_lineBegins rfl (by decide) (by decide) rfl (cat4 (Nat.le_of_ble_eq_true rfl)) dX8_readChanged_10 hw) (fun _ h H locs cells slots hR hw => ?_)
  refine r_aload_n X dX8_readChanged_13 rfl (lv_at hl 0 rfl) ?_
  refine lv_iconst (v := 1) hx hb dX8_readChanged_14 (by decide) ?_
  refine r_callI X hR (c_V (ci := 8) (q := (RX8, TX8, 32)) X hR hl.1 (c_X8_readKnown l g v0 1) (lw_V q1884 q1886 qs67 q125 q1887) rfl rfl mh_X8_readKnown rfl (by decide) (by decide) rfl (cat4 (Nat.le_of_ble_eq_true rfl)) dX8_readChanged_15 hw) (fun x3 h H locs cells slots hR hw => ?_)
  refine lv_istore_n (i := 1) (lv' := [(1, .int x3), (0, va_rf v0)]) hx hb dX8_readChanged_18 rfl hl (by decide) (by simp [cat_rf, cat_int, cat_long]) (fun ls hl => ?_)
  refine r_aload_n X dX8_readChanged_19 rfl (lv_at hl 1 rfl) ?_
  refine lv_iconst (v := 1) hx hb dX8_readChanged_20 (by decide) ?_
  refine r_callI X hR (c_V (ci := 8) (q := (RX8, TX8, 32)) X hR hl.1 (c_X8_knownOne l g v0 1) (lw_V q1888 q1890 qs68 q125 q1891) rfl rfl mh_X8_knownOne rfl (by decide) (by decide) rfl (cat4 (Nat.le_of_ble_eq_true rfl)) dX8_readChanged_21 hw) (fun x4 h H locs cells slots hR hw => ?_)
  refine lv_istore_n (i := 2) (lv' := [(2, .int x4), (1, .int x3), (0, va_rf v0)]) hx hb dX8_readChanged_24 rfl hl (by decide) rfl (fun ls hl => ?_)
  refine r_aload_n X dX8_readChanged_25 rfl (lv_at hl 2 rfl) ?_
  refine r_gI X hR fk_X8_77 dX8_readChanged_26 hw (fun x5 hw => ?_)
  refine lv_iconst (v := 5) hx hb dX8_readChanged_29 (by decide) ?_
  refine lv_icmp_eq (tgt := 43) hx hb dX8_readChanged_30 (by decide) (fun c6 => ?_) (fun c6 => ?_)
  · have hw := hw.1 c6
    exact t_X8_readChanged_J43 X  hw hR (lv_sub hl [2, 1, 0] rfl)
  · have hw := hw.2 c6
    refine lv_iload_n hx hb dX8_readChanged_33 rfl (lv_at hl 1 rfl) ?_
    refine lv_iload_n hx hb dX8_readChanged_34 rfl (lv_at hl 0 rfl) ?_
    refine lv_icmp_ne (tgt := 43) hx hb dX8_readChanged_35 (by decide) (fun c7 => ?_) (fun c7 => ?_)
    · have hw := hw.1 c7
      exact t_X8_readChanged_J43 X  hw hR (lv_sub hl [2, 1, 0] rfl)
    · have hw := hw.2 c7
      refine r_aload_n X dX8_readChanged_38 rfl (lv_at hl 2 rfl) ?_
      refine lv_iconst (v := 3) hx hb dX8_readChanged_39 (by decide) ?_
      refine r_callV X hR (c_V (ci := 8) (q := (RX8, TX8, 32)) X hR hl.1 (c_X8_flaw l g v0 3) (lw_V q1817 q1819 qs57 q125 q1820) rfl rfl mh_X8_flaw rfl (by decide) (by decide) rfl (cat4 (Nat.le_of_ble_eq_true rfl)) dX8_readChanged_40 hw) (fun _ h H locs cells slots hR hw => ?_)
      exact t_X8_readChanged_J43 X  hw hR (lv_sub hl [2, 1, 0] rfl)
theorem c_X8_readRain (l : Launch) (g : GT) (v0 : Option Nat) : CT qV l yX8_readRain (ws_ yX8_readRain cX8_readRain 1 none) 11 g [va_rf v0] (fun K E h => w_X8_readRain g v0 K E h) := by
  refine CT_of (lv := [(0, va_rf v0)]) (by decide +kernel) (by simp [lg_sl, cat_rf, cat_int, cat_long]) (by simp [lv_args, cat_rf, cat_int, cat_long]) (fun h0 K E p e s m args below meth c H locs cells slots ls X hxt hmn hw hR hl => ?_)
  have hx := X.hx
  have hb := X.hb
  unfold w_X8_readRain at hw
  refine r_aload_n X dX8_readRain_0 rfl (lv_at hl 0 rfl) ?_
  refine r_aload_n X dX8_readRain_1 rfl (lv_at hl 0 rfl) ?_
  refine r_gR X hR fk_X8_152 dX8_readRain_2 hw (fun x1 hw => ?_)
  refine r_gI X hR fk_X8_279 dX8_readRain_5 hw (fun x2 hw => ?_)
  refine lv_bipush (v := 16) hx hb dX8_readRain_8 (by decide) ?_
  refine r_callV X hR (c_V (ci := 8) (q := (RX8, TX8, 32)) X hR hl.1 (c_X8_lineBegins l g v0 x2 16) (lw_V q1844 q1846 qs62 q125 q1847) rfl rfl mh_X8_lineBegins rfl (by decide) (by decide) rfl (cat4 (Nat.le_of_ble_eq_true rfl)) dX8_readRain_10 hw) (fun _ h H locs cells slots hR hw => ?_)
  refine r_aload_n X dX8_readRain_13 rfl (lv_at hl 0 rfl) ?_
  refine lv_iconst (v := 3) hx hb dX8_readRain_14 (by decide) ?_
  refine lv_iconst (v := 0) hx hb dX8_readRain_15 (by decide) ?_
  refine lv_iconst (v := 0) hx hb dX8_readRain_16 (by decide) ?_
  refine r_callV X hR (c_V (ci := 8) (q := (RX8, TX8, 32)) X hR hl.1 (c_X8_logs l g v0 3 0 0) (lw_V q1896 q1898 qs70 q125 q1899) rfl rfl mh_X8_logs rfl (by decide) (by decide) rfl (cat4 (Nat.le_of_ble_eq_true rfl)) dX8_readRain_17 hw) (fun _ h H locs cells slots hR hw => ?_)
  exact r_vret X hR rfl dX8_readRain_20 hw
theorem c_X8_readClaims (l : Launch) (g : GT) (v0 : Option Nat) : CT qV l yX8_readClaims (ws_ yX8_readClaims cX8_readClaims 4 none) 11 g [va_rf v0] (fun K E h => w_X8_readClaims g v0 K E h) := by
  refine CT_of (lv := [(0, va_rf v0)]) (by decide +kernel) (by simp [lg_sl, cat_rf, cat_int, cat_long]) (by simp [lv_args, cat_rf, cat_int, cat_long]) (fun h0 K E p e s m args below meth c H locs cells slots ls X hxt hmn hw hR hl => ?_)
  have hx := X.hx
  have hb := X.hb
  unfold w_X8_readClaims at hw
  refine r_aload_n X dX8_readClaims_0 rfl (lv_at hl 0 rfl) ?_
  refine r_aload_n X dX8_readClaims_1 rfl (lv_at hl 0 rfl) ?_
  refine r_gR X hR fk_X8_152 dX8_readClaims_2 hw (fun x1 hw => ?_)
  refine r_gI X hR fk_X8_298 dX8_readClaims_5 hw (fun x2 hw => ?_)
  refine lv_bipush (v := 6) hx hb dX8_readClaims_8 (by decide) ?_
  refine r_callV X hR (c_V (ci := 8) (q := (RX8, TX8, 32)) X hR hl.1 (c_X8_lineBegins l g v0 x2 6) (lw_V q1844 q1846 qs62 q125 q1847) rfl rfl mh_X8_lineBegins rfl (by decide) (by decide) rfl (cat4 (Nat.le_of_ble_eq_true rfl)) dX8_readClaims_10 hw) (fun _ h H locs cells slots hR hw => ?_)
  refine r_aload_n X dX8_readClaims_13 rfl (lv_at hl 0 rfl) ?_
  refine lv_iconst (v := 0) hx hb dX8_readClaims_14 (by decide) ?_
  refine r_callI X hR (c_V (ci := 8) (q := (RX8, TX8, 32)) X hR hl.1 (c_X8_readKnown l g v0 0) (lw_V q1884 q1886 qs67 q125 q1887) rfl rfl mh_X8_readKnown rfl (by decide) (by decide) rfl (cat4 (Nat.le_of_ble_eq_true rfl)) dX8_readClaims_15 hw) (fun x3 h H locs cells slots hR hw => ?_)
  refine lv_istore_n (i := 1) (lv' := [(1, .int x3), (0, va_rf v0)]) hx hb dX8_readClaims_18 rfl hl (by decide) (by simp [cat_rf, cat_int, cat_long]) (fun ls hl => ?_)
  refine r_aload_n X dX8_readClaims_19 rfl (lv_at hl 1 rfl) ?_
  refine lv_iconst (v := 1) hx hb dX8_readClaims_20 (by decide) ?_
  refine r_callI X hR (c_V (ci := 8) (q := (RX8, TX8, 32)) X hR hl.1 (c_X8_readKnown l g v0 1) (lw_V q1884 q1886 qs67 q125 q1887) rfl rfl mh_X8_readKnown rfl (by decide) (by decide) rfl (cat4 (Nat.le_of_ble_eq_true rfl)) dX8_readClaims_21 hw) (fun x4 h H locs cells slots hR hw => ?_)
  refine lv_istore_n (i := 2) (lv' := [(2, .int x4), (1, .int x3), (0, va_rf v0)]) hx hb dX8_readClaims_24 rfl hl (by decide) rfl (fun ls hl => ?_)
  refine r_aload_n X dX8_readClaims_25 rfl (lv_at hl 2 rfl) ?_
  refine r_ldcWS X (tx := "day") (List.mem_of_getElem? (i := 44) rfl) dX8_readClaims_26 ?_
  refine lv_iconst (v := 0) hx hb dX8_readClaims_29 (by decide) ?_
  refine lv_bipush (v := 40) hx hb dX8_readClaims_30 (by decide) ?_
  refine r_callI X hR (c_V (ci := 8) (q := (RX8, TX8, 32)) X hR hl.1 (c_X8_readPart l g v0 (some (g.2.2.2.1 22)) 0 40) (lw_V q1822 q1824 qs58 q125 q1825) rfl rfl mh_X8_readPart rfl (by decide) (by decide) rfl (cat4 (Nat.le_of_ble_eq_true rfl)) dX8_readClaims_32 hw) (fun x5 h H locs cells slots hR hw => ?_)
  refine lv_istore_n (i := 3) (lv' := [(3, .int x5), (2, .int x4), (1, .int x3), (0, va_rf v0)]) hx hb dX8_readClaims_35 rfl hl (by decide) rfl (fun ls hl => ?_)
  refine r_aload_n X dX8_readClaims_36 rfl (lv_at hl 3 rfl) ?_
  refine r_gI X hR fk_X8_77 dX8_readClaims_37 hw (fun x6 hw => ?_)
  refine lv_iconst (v := 5) hx hb dX8_readClaims_40 (by decide) ?_
  refine lv_icmp_ne (tgt := 45) hx hb dX8_readClaims_41 (by decide) (fun c7 => ?_) (fun c7 => ?_)
  · have hw := hw.1 c7
    refine r_aload_n X dX8_readClaims_45 rfl (lv_at hl 3 rfl) ?_
    refine r_gR X hR fk_X8_152 dX8_readClaims_46 hw (fun x8 hw => ?_)
    refine r_gR X hR fk_X8_300 dX8_readClaims_49 hw (fun x9 hw => ?_)
    refine r_aload_n X dX8_readClaims_52 rfl (lv_at hl 3 rfl) ?_
    refine r_gR X hR fk_X8_152 dX8_readClaims_53 hw (fun x10 hw => ?_)
    refine r_gI X hR fk_X8_298 dX8_readClaims_56 hw (fun x11 hw => ?_)
    refine lv_iload_n hx hb dX8_readClaims_59 rfl (lv_at hl 2 rfl) ?_
    refine r_iast X hR dX8_readClaims_60 hw (fun H locs h hR hw => ?_)
    refine r_aload_n X dX8_readClaims_61 rfl (lv_at hl 3 rfl) ?_
    refine r_gR X hR fk_X8_152 dX8_readClaims_62 hw (fun x12 hw => ?_)
    refine r_gR X hR fk_X8_303 dX8_readClaims_65 hw (fun x13 hw => ?_)
    refine r_aload_n X dX8_readClaims_68 rfl (lv_at hl 3 rfl) ?_
    refine r_gR X hR fk_X8_152 dX8_readClaims_69 hw (fun x14 hw => ?_)
    refine r_gI X hR fk_X8_298 dX8_readClaims_72 hw (fun x15 hw => ?_)
    refine lv_iload_n hx hb dX8_readClaims_75 rfl (lv_at hl 1 rfl) ?_
    refine r_iast X hR dX8_readClaims_76 hw (fun H locs h hR hw => ?_)
    refine r_aload_n X dX8_readClaims_77 rfl (lv_at hl 3 rfl) ?_
    refine r_gR X hR fk_X8_152 dX8_readClaims_78 hw (fun x16 hw => ?_)
    refine r_gR X hR fk_X8_306 dX8_readClaims_81 hw (fun x17 hw => ?_)
    refine r_aload_n X dX8_readClaims_84 rfl (lv_at hl 3 rfl) ?_
    refine r_gR X hR fk_X8_152 dX8_readClaims_85 hw (fun x18 hw => ?_)
    refine r_gI X hR fk_X8_298 dX8_readClaims_88 hw (fun x19 hw => ?_)
    refine lv_iload_n hx hb dX8_readClaims_91 rfl (lv_at hl 0 rfl) ?_
    refine r_iast X hR dX8_readClaims_92 hw (fun H locs h hR hw => ?_)
    refine r_aload_n X dX8_readClaims_93 rfl (lv_at hl 3 rfl) ?_
    refine r_gR X hR fk_X8_152 dX8_readClaims_94 hw (fun x20 hw => ?_)
    refine lv_dup hx hb dX8_readClaims_97 (cat_rf _) ?_
    refine r_gI X hR fk_X8_298 dX8_readClaims_98 hw (fun x21 hw => ?_)
    refine lv_iconst (v := 1) hx hb dX8_readClaims_101 (by decide) ?_
    refine lv_iadd hx hb dX8_readClaims_102 ?_
    refine r_put X hR fp_X8_298 (Or.inl fn_X8_298) (nf_int _) dX8_readClaims_103 hw (fun H locs h hR hw => ?_)
    exact r_vret X hR rfl dX8_readClaims_106 hw
  · have hw := hw.2 c7
    exact r_vret X hR rfl dX8_readClaims_44 hw
theorem c_X8_readLine (l : Launch) (g : GT) (v0 : Option Nat) : CT qV l yX8_readLine (ws_ yX8_readLine cX8_readLine 1 none) 12 g [va_rf v0] (fun K E h => w_X8_readLine g v0 K E h) := by
  refine CT_of (lv := [(0, va_rf v0)]) (by decide +kernel) (by simp [lg_sl, cat_rf, cat_int, cat_long]) (by simp [lv_args, cat_rf, cat_int, cat_long]) (fun h0 K E p e s m args below meth c H locs cells slots ls X hxt hmn hw hR hl => ?_)
  have hx := X.hx
  have hb := X.hb
  unfold w_X8_readLine at hw
  refine r_aload_n X dX8_readLine_0 rfl (lv_at hl 0 rfl) ?_
  refine r_ldcS X (tx := "county") (List.mem_of_getElem? (i := 23) rfl) dX8_readLine_1 ?_
  refine r_callI X hR (c_V (ci := 8) (q := (RX8, TX8, 32)) X hR hl.1 (c_X8_isWord l g v0 (some (g.2.2.2.1 1))) (lw_V q1778 q1780 qs55 q125 q1781) rfl rfl mh_X8_isWord rfl (by decide) (by decide) rfl (cat4 (Nat.le_of_ble_eq_true rfl)) dX8_readLine_3 hw) (fun x1 h H locs cells slots hR hw => ?_)
  refine lv_if_eq (tgt := 16) hx hb dX8_readLine_6 (by decide) (fun c2 => ?_) (fun c2 => ?_)
  · have hw := hw.1 c2
    refine r_aload_n X dX8_readLine_16 rfl (lv_at hl 0 rfl) ?_
    refine r_ldcS X (tx := "person") (List.mem_of_getElem? (i := 24) rfl) dX8_readLine_17 ?_
    refine r_callI X hR (c_V (ci := 8) (q := (RX8, TX8, 32)) X hR hl.1 (c_X8_isWord l g v0 (some (g.2.2.2.1 2))) (lw_V q1778 q1780 qs55 q125 q1781) rfl rfl mh_X8_isWord rfl (by decide) (by decide) rfl (cat4 (Nat.le_of_ble_eq_true rfl)) dX8_readLine_19 hw) (fun x3 h H locs cells slots hR hw => ?_)
    refine lv_if_eq (tgt := 32) hx hb dX8_readLine_22 (by decide) (fun c4 => ?_) (fun c4 => ?_)
    · have hw := hw.1 c4
      refine r_aload_n X dX8_readLine_32 rfl (lv_at hl 0 rfl) ?_
      refine r_ldcS X (tx := "umbrella") (List.mem_of_getElem? (i := 25) rfl) dX8_readLine_33 ?_
      refine r_callI X hR (c_V (ci := 8) (q := (RX8, TX8, 32)) X hR hl.1 (c_X8_isWord l g v0 (some (g.2.2.2.1 3))) (lw_V q1778 q1780 qs55 q125 q1781) rfl rfl mh_X8_isWord rfl (by decide) (by decide) rfl (cat4 (Nat.le_of_ble_eq_true rfl)) dX8_readLine_35 hw) (fun x5 h H locs cells slots hR hw => ?_)
      refine lv_if_eq (tgt := 48) hx hb dX8_readLine_38 (by decide) (fun c6 => ?_) (fun c6 => ?_)
      · have hw := hw.1 c6
        refine r_aload_n X dX8_readLine_48 rfl (lv_at hl 0 rfl) ?_
        refine r_ldcS X (tx := "lent") (List.mem_of_getElem? (i := 26) rfl) dX8_readLine_49 ?_
        refine r_callI X hR (c_V (ci := 8) (q := (RX8, TX8, 32)) X hR hl.1 (c_X8_isWord l g v0 (some (g.2.2.2.1 4))) (lw_V q1778 q1780 qs55 q125 q1781) rfl rfl mh_X8_isWord rfl (by decide) (by decide) rfl (cat4 (Nat.le_of_ble_eq_true rfl)) dX8_readLine_51 hw) (fun x7 h H locs cells slots hR hw => ?_)
        refine lv_if_eq (tgt := 64) hx hb dX8_readLine_54 (by decide) (fun c8 => ?_) (fun c8 => ?_)
        · have hw := hw.1 c8
          refine r_aload_n X dX8_readLine_64 rfl (lv_at hl 0 rfl) ?_
          refine r_ldcS X (tx := "left") (List.mem_of_getElem? (i := 27) rfl) dX8_readLine_65 ?_
          refine r_callI X hR (c_V (ci := 8) (q := (RX8, TX8, 32)) X hR hl.1 (c_X8_isWord l g v0 (some (g.2.2.2.1 5))) (lw_V q1778 q1780 qs55 q125 q1781) rfl rfl mh_X8_isWord rfl (by decide) (by decide) rfl (cat4 (Nat.le_of_ble_eq_true rfl)) dX8_readLine_67 hw) (fun x9 h H locs cells slots hR hw => ?_)
          refine lv_if_eq (tgt := 80) hx hb dX8_readLine_70 (by decide) (fun c10 => ?_) (fun c10 => ?_)
          · have hw := hw.1 c10
            refine r_aload_n X dX8_readLine_80 rfl (lv_at hl 0 rfl) ?_
            refine r_ldcS X (tx := "changed") (List.mem_of_getElem? (i := 28) rfl) dX8_readLine_81 ?_
            refine r_callI X hR (c_V (ci := 8) (q := (RX8, TX8, 32)) X hR hl.1 (c_X8_isWord l g v0 (some (g.2.2.2.1 6))) (lw_V q1778 q1780 qs55 q125 q1781) rfl rfl mh_X8_isWord rfl (by decide) (by decide) rfl (cat4 (Nat.le_of_ble_eq_true rfl)) dX8_readLine_83 hw) (fun x11 h H locs cells slots hR hw => ?_)
            refine lv_if_eq (tgt := 96) hx hb dX8_readLine_86 (by decide) (fun c12 => ?_) (fun c12 => ?_)
            · have hw := hw.1 c12
              refine r_aload_n X dX8_readLine_96 rfl (lv_at hl 0 rfl) ?_
              refine r_ldcS X (tx := "rain") (List.mem_of_getElem? (i := 29) rfl) dX8_readLine_97 ?_
              refine r_callI X hR (c_V (ci := 8) (q := (RX8, TX8, 32)) X hR hl.1 (c_X8_isWord l g v0 (some (g.2.2.2.1 7))) (lw_V q1778 q1780 qs55 q125 q1781) rfl rfl mh_X8_isWord rfl (by decide) (by decide) rfl (cat4 (Nat.le_of_ble_eq_true rfl)) dX8_readLine_99 hw) (fun x13 h H locs cells slots hR hw => ?_)
              refine lv_if_eq (tgt := 112) hx hb dX8_readLine_102 (by decide) (fun c14 => ?_) (fun c14 => ?_)
              · have hw := hw.1 c14
                refine r_aload_n X dX8_readLine_112 rfl (lv_at hl 0 rfl) ?_
                refine r_ldcS X (tx := "claims") (List.mem_of_getElem? (i := 30) rfl) dX8_readLine_113 ?_
                refine r_callI X hR (c_V (ci := 8) (q := (RX8, TX8, 32)) X hR hl.1 (c_X8_isWord l g v0 (some (g.2.2.2.1 8))) (lw_V q1778 q1780 qs55 q125 q1781) rfl rfl mh_X8_isWord rfl (by decide) (by decide) rfl (cat4 (Nat.le_of_ble_eq_true rfl)) dX8_readLine_115 hw) (fun x15 h H locs cells slots hR hw => ?_)
                refine lv_if_eq (tgt := 128) hx hb dX8_readLine_118 (by decide) (fun c16 => ?_) (fun c16 => ?_)
                · have hw := hw.1 c16
                  refine r_aload_n X dX8_readLine_128 rfl (lv_at hl 0 rfl) ?_
                  refine lv_iconst (v := 1) hx hb dX8_readLine_129 (by decide) ?_
                  refine r_callV X hR (c_V (ci := 8) (q := (RX8, TX8, 32)) X hR hl.1 (c_X8_flaw l g v0 1) (lw_V q1817 q1819 qs57 q125 q1820) rfl rfl mh_X8_flaw rfl (by decide) (by decide) rfl (cat4 (Nat.le_of_ble_eq_true rfl)) dX8_readLine_130 hw) (fun _ h H locs cells slots hR hw => ?_)
                  exact r_vret X hR rfl dX8_readLine_133 hw
                · have hw := hw.2 c16
                  refine r_aload_n X dX8_readLine_121 rfl (lv_at hl 0 rfl) ?_
                  refine r_callV X hR (c_V (ci := 8) (q := (RX8, TX8, 32)) X hR hl.1 (c_X8_readClaims l g v0) (lw_V q1913 q1915 qs74 q125 q1916) rfl rfl mh_X8_readClaims rfl (by decide) (by decide) rfl (cat4 (Nat.le_of_ble_eq_true rfl)) dX8_readLine_122 hw) (fun _ h H locs cells slots hR hw => ?_)
                  refine lv_goto (tgt := 133) hx hb dX8_readLine_125 (by decide) ?_
                  exact r_vret X hR rfl dX8_readLine_133 hw
              · have hw := hw.2 c14
                refine r_aload_n X dX8_readLine_105 rfl (lv_at hl 0 rfl) ?_
                refine r_callV X hR (c_V (ci := 8) (q := (RX8, TX8, 32)) X hR hl.1 (c_X8_readRain l g v0) (lw_V q1909 q1911 qs73 q125 q1912) rfl rfl mh_X8_readRain rfl (by decide) (by decide) rfl (cat4 (Nat.le_of_ble_eq_true rfl)) dX8_readLine_106 hw) (fun _ h H locs cells slots hR hw => ?_)
                refine lv_goto (tgt := 133) hx hb dX8_readLine_109 (by decide) ?_
                exact r_vret X hR rfl dX8_readLine_133 hw
            · have hw := hw.2 c12
              refine r_aload_n X dX8_readLine_89 rfl (lv_at hl 0 rfl) ?_
              refine r_callV X hR (c_V (ci := 8) (q := (RX8, TX8, 32)) X hR hl.1 (c_X8_readChanged l g v0) (lw_V q1905 q1907 qs72 q125 q1908) rfl rfl mh_X8_readChanged rfl (by decide) (by decide) rfl (cat4 (Nat.le_of_ble_eq_true rfl)) dX8_readLine_90 hw) (fun _ h H locs cells slots hR hw => ?_)
              refine lv_goto (tgt := 133) hx hb dX8_readLine_93 (by decide) ?_
              exact r_vret X hR rfl dX8_readLine_133 hw
          · have hw := hw.2 c10
            refine r_aload_n X dX8_readLine_73 rfl (lv_at hl 0 rfl) ?_
            refine r_callV X hR (c_V (ci := 8) (q := (RX8, TX8, 32)) X hR hl.1 (c_X8_readLeft l g v0) (lw_V q1901 q1903 qs71 q125 q1904) rfl rfl mh_X8_readLeft rfl (by decide) (by decide) rfl (cat4 (Nat.le_of_ble_eq_true rfl)) dX8_readLine_74 hw) (fun _ h H locs cells slots hR hw => ?_)
            refine lv_goto (tgt := 133) hx hb dX8_readLine_77 (by decide) ?_
            exact r_vret X hR rfl dX8_readLine_133 hw
        · have hw := hw.2 c8
          refine r_aload_n X dX8_readLine_57 rfl (lv_at hl 0 rfl) ?_
          refine r_callV X hR (c_V (ci := 8) (q := (RX8, TX8, 32)) X hR hl.1 (c_X8_readLent l g v0) (lw_V q1892 q1894 qs69 q125 q1895) rfl rfl mh_X8_readLent rfl (by decide) (by decide) rfl (cat4 (Nat.le_of_ble_eq_true rfl)) dX8_readLine_58 hw) (fun _ h H locs cells slots hR hw => ?_)
          refine lv_goto (tgt := 133) hx hb dX8_readLine_61 (by decide) ?_
          exact r_vret X hR rfl dX8_readLine_133 hw
      · have hw := hw.2 c6
        refine r_aload_n X dX8_readLine_41 rfl (lv_at hl 0 rfl) ?_
        refine r_callV X hR (c_V (ci := 8) (q := (RX8, TX8, 32)) X hR hl.1 (c_X8_readUmbrella l g v0) (lw_V q1873 q1875 qs66 q125 q1876) rfl rfl mh_X8_readUmbrella rfl (by decide) (by decide) rfl (cat4 (Nat.le_of_ble_eq_true rfl)) dX8_readLine_42 hw) (fun _ h H locs cells slots hR hw => ?_)
        refine lv_goto (tgt := 133) hx hb dX8_readLine_45 (by decide) ?_
        exact r_vret X hR rfl dX8_readLine_133 hw
    · have hw := hw.2 c4
      refine r_aload_n X dX8_readLine_25 rfl (lv_at hl 0 rfl) ?_
      refine r_callV X hR (c_V (ci := 8) (q := (RX8, TX8, 32)) X hR hl.1 (c_X8_readPerson l g v0) (lw_V q1840 q1842 qs61 q125 q1843) rfl rfl mh_X8_readPerson rfl (by decide) (by decide) rfl (cat4 (Nat.le_of_ble_eq_true rfl)) dX8_readLine_26 hw) (fun _ h H locs cells slots hR hw => ?_)
      refine lv_goto (tgt := 133) hx hb dX8_readLine_29 (by decide) ?_
      exact r_vret X hR rfl dX8_readLine_133 hw
  · have hw := hw.2 c2
    refine r_aload_n X dX8_readLine_9 rfl (lv_at hl 0 rfl) ?_
    refine r_callV X hR (c_V (ci := 8) (q := (RX8, TX8, 32)) X hR hl.1 (c_X8_readCounty l g v0) (lw_V q1813 q1815 qs56 q125 q1816) rfl rfl mh_X8_readCounty rfl (by decide) (by decide) rfl (cat4 (Nat.le_of_ble_eq_true rfl)) dX8_readLine_10 hw) (fun _ h H locs cells slots hR hw => ?_)
    refine lv_goto (tgt := 133) hx hb dX8_readLine_13 (by decide) ?_
    exact r_vret X hR rfl dX8_readLine_133 hw
theorem t_X8_eatsSemicolon_J13 {p : Program} {l : Launch} {e : Env} {s : State} {m : MethodId} {args : Array Value} {below : List Frame} {meth : Method} {c : Code} {g : GT} {h0 : AH} {v0 : Option Nat} {s0 : Int32} {K : Int32 → AH → Prop} {E : Nat → AH → Prop} {h : AH} {H : Heap} {locs : List Loc} {cells slots : Nat} {ls : Array Slot} (X : Cx g h0 p s m args meth c RX8 cX8_eatsSemicolon 2 (Option.some Jvm.ClassFile.FieldType.boolean))  (hw : w_X8_eatsSemicolon_J13 g v0 s0 K E h) (hR : HS g s h H locs) (hl : lv_has ls 2 [(0, va_rf v0)]) : W p l e (RM 3 h0) s m args below meth c H locs cells slots (MQT below g (qI K) E args s h0) (F0 m 13 ls [.int s0]) := by
  have hx := X.hx
  have hb := X.hb
  unfold w_X8_eatsSemicolon_J13 at hw
  refine lv_istore_n (i := 1) (lv' := [(1, .int s0), (0, va_rf v0)]) hx hb dX8_eatsSemicolon_13 rfl hl (by decide) (by simp [cat_rf, cat_int, cat_long]) (fun ls hl => ?_)
  refine lv_iload_n hx hb dX8_eatsSemicolon_14 rfl (lv_at hl 0 rfl) ?_
  refine lv_if_eq (tgt := 22) hx hb dX8_eatsSemicolon_15 (by decide) (fun c3 => ?_) (fun c3 => ?_)
  · have hw := hw.1 c3
    refine lv_iload_n hx hb dX8_eatsSemicolon_22 rfl (lv_at hl 0 rfl) ?_
    exact r_zret X hR dX8_eatsSemicolon_23 hw
  · have hw := hw.2 c3
    refine r_aload_n X dX8_eatsSemicolon_18 rfl (lv_at hl 1 rfl) ?_
    refine r_callV X hR (c_V (ci := 8) (q := (RX8, TX8, 32)) X hR hl.1 (c_X8_goesOn l g v0) (lw_V q1754 q1756 qs51 q125 q1757) rfl rfl mh_X8_goesOn rfl (by decide) (by decide) rfl (cat4 (Nat.le_of_ble_eq_true rfl)) dX8_eatsSemicolon_19 hw) (fun _ h H locs cells slots hR hw => ?_)
    refine lv_iload_n hx hb dX8_eatsSemicolon_22 rfl (lv_at hl 0 rfl) ?_
    exact r_zret X hR dX8_eatsSemicolon_23 hw
theorem c_X8_eatsSemicolon (l : Launch) (g : GT) (v0 : Option Nat) : CT qI l yX8_eatsSemicolon (ws_ yX8_eatsSemicolon cX8_eatsSemicolon 2 (Option.some Jvm.ClassFile.FieldType.boolean)) 3 g [va_rf v0] (fun K E h => w_X8_eatsSemicolon g v0 K E h) := by
  refine CT_of (lv := [(0, va_rf v0)]) (by decide +kernel) (by simp [lg_sl, cat_rf, cat_int, cat_long]) (by simp [lv_args, cat_rf, cat_int, cat_long]) (fun h0 K E p e s m args below meth c H locs cells slots ls X hxt hmn hw hR hl => ?_)
  have hx := X.hx
  have hb := X.hb
  unfold w_X8_eatsSemicolon at hw
  refine r_aload_n X dX8_eatsSemicolon_0 rfl (lv_at hl 0 rfl) ?_
  refine r_gI X hR fk_X8_77 dX8_eatsSemicolon_1 hw (fun x1 hw => ?_)
  refine lv_iconst (v := 4) hx hb dX8_eatsSemicolon_4 (by decide) ?_
  refine lv_icmp_ne (tgt := 12) hx hb dX8_eatsSemicolon_5 (by decide) (fun c2 => ?_) (fun c2 => ?_)
  · have hw := hw.1 c2
    refine lv_iconst (v := 0) hx hb dX8_eatsSemicolon_12 (by decide) ?_
    exact t_X8_eatsSemicolon_J13 X  hw hR (lv_sub hl [0] rfl)
  · have hw := hw.2 c2
    refine lv_iconst (v := 1) hx hb dX8_eatsSemicolon_8 (by decide) ?_
    refine lv_goto (tgt := 13) hx hb dX8_eatsSemicolon_9 (by decide) ?_
    exact t_X8_eatsSemicolon_J13 X  hw hR (lv_sub hl [0] rfl)
theorem t_X8_readAll_J51 {p : Program} {l : Launch} {e : Env} {s : State} {m : MethodId} {args : Array Value} {below : List Frame} {meth : Method} {c : Code} {g : GT} {h0 : AH} {v0 : Option Nat} {K : Unit → AH → Prop} {E : Nat → AH → Prop} {h : AH} {H : Heap} {locs : List Loc} {cells slots : Nat} {ls : Array Slot} (X : Cx g h0 p s m args meth c RX8 cX8_readAll 2 none)  (hw : w_X8_readAll_J51 g v0 K E h) (hR : HS g s h H locs) (hl : lv_has ls 2 [(0, va_rf v0)]) : W p l e (RM 13 h0) s m args below meth c H locs cells slots (MQT below g (qV K) E args s h0) (F0 m 51 ls []) := by
  have hx := X.hx
  have hb := X.hb
  unfold w_X8_readAll_J51 at hw
  refine r_aload_n X dX8_readAll_51 rfl (lv_at hl 0 rfl) ?_
  refine lv_bipush (v := 6) hx hb dX8_readAll_52 (by decide) ?_
  refine r_callV X hR (c_V (ci := 8) (q := (RX8, TX8, 32)) X hR hl.1 (c_X8_flaw l g v0 6) (lw_V q1817 q1819 qs57 q125 q1820) rfl rfl mh_X8_flaw rfl (by decide) (by decide) rfl (cat4 (Nat.le_of_ble_eq_true rfl)) dX8_readAll_54 hw) (fun _ h H locs cells slots hR hw => ?_)
  exact r_vret X hR rfl dX8_readAll_57 hw
theorem t_X8_readAll_J31 {p : Program} {l : Launch} {e : Env} {s : State} {m : MethodId} {args : Array Value} {below : List Frame} {meth : Method} {c : Code} {g : GT} {h0 : AH} {v0 : Option Nat} {K : Unit → AH → Prop} {E : Nat → AH → Prop} {h : AH} {H : Heap} {locs : List Loc} {cells slots : Nat} {ls : Array Slot} (X : Cx g h0 p s m args meth c RX8 cX8_readAll 2 none)  (hw : w_X8_readAll_J31 g v0 K E h) (hR : HS g s h H locs) (hl : lv_has ls 2 [(0, va_rf v0)]) : W p l e (RM 13 h0) s m args below meth c H locs cells slots (MQT below g (qV K) E args s h0) (F0 m 31 ls []) := by
  have hx := X.hx
  have hb := X.hb
  unfold w_X8_readAll_J31 at hw
  refine r_aload_n X dX8_readAll_31 rfl (lv_at hl 0 rfl) ?_
  refine r_gR X hR fk_X8_152 dX8_readAll_32 hw (fun x4 hw => ?_)
  refine r_gI X hR fk_X8_191 dX8_readAll_35 hw (fun x5 hw => ?_)
  refine lv_if_eq (tgt := 51) hx hb dX8_readAll_38 (by decide) (fun c6 => ?_) (fun c6 => ?_)
  · have hw := hw.1 c6
    exact t_X8_readAll_J51 X  hw hR (lv_sub hl [0] rfl)
  · have hw := hw.2 c6
    refine r_aload_n X dX8_readAll_41 rfl (lv_at hl 0 rfl) ?_
    refine r_gR X hR fk_X8_152 dX8_readAll_42 hw (fun x7 hw => ?_)
    refine r_gI X hR fk_X8_194 dX8_readAll_45 hw (fun x8 hw => ?_)
    refine lv_if_ne (tgt := 57) hx hb dX8_readAll_48 (by decide) (fun c9 => ?_) (fun c9 => ?_)
    · have hw := hw.1 c9
      exact r_vret X hR rfl dX8_readAll_57 hw
    · have hw := hw.2 c9
      exact t_X8_readAll_J51 X  hw hR (lv_sub hl [0] rfl)
theorem t_X8_readAll_L2 {p : Program} {l : Launch} {e : Env} {s : State} {m : MethodId} {args : Array Value} {below : List Frame} {meth : Method} {c : Code} {g : GT} {h0 : AH} {v0 : Option Nat} {K : Unit → AH → Prop} {E : Nat → AH → Prop} (X : Cx g h0 p s m args meth c RX8 cX8_readAll 2 none)  : ∀ (n : Nat) {v1 : Int32} {h : AH} {H : Heap} {locs : List Loc} {cells slots : Nat} {ls : Array Slot}, LpN1 (w_X8_readAll_L2 g v0 K E) n v1 h → HS g s h H locs → lv_has ls 2 [(0, va_rf v0), (1, .int v1)] → W p l e (RM 13 h0) s m args below meth c H locs cells slots (MQT below g (qV K) E args s h0) (F0 m 2 ls []) := by
  have hx := X.hx
  have hb := X.hb
  intro n
  induction n with
  | zero =>
    intro v1 h H locs cells slots ls hw
    exact hw.elim
  | succ n k2 =>
    intro v1 h H locs cells slots ls hw hR hl
    have hw : w_X8_readAll_L2 g v0 K E (LpN1 (w_X8_readAll_L2 g v0 K E) n) v1 h := hw
    unfold w_X8_readAll_L2 at hw
    refine lv_iload_n hx hb dX8_readAll_2 rfl (lv_at hl 1 rfl) ?_
    refine lv_if_eq (tgt := 18) hx hb dX8_readAll_3 (by decide) (fun c1 => ?_) (fun c1 => ?_)
    · have hw := hw.1 c1
      refine r_aload_n X dX8_readAll_18 rfl (lv_at hl 0 rfl) ?_
      refine r_gI X hR fk_X8_77 dX8_readAll_19 hw (fun x2 hw => ?_)
      refine lv_iconst (v := 1) hx hb dX8_readAll_22 (by decide) ?_
      refine lv_icmp_eq (tgt := 31) hx hb dX8_readAll_23 (by decide) (fun c3 => ?_) (fun c3 => ?_)
      · have hw := hw.1 c3
        exact t_X8_readAll_J31 X  hw hR (lv_sub hl [0] rfl)
      · have hw := hw.2 c3
        refine r_aload_n X dX8_readAll_26 rfl (lv_at hl 0 rfl) ?_
        refine lv_iconst (v := 1) hx hb dX8_readAll_27 (by decide) ?_
        refine r_callV X hR (c_V (ci := 8) (q := (RX8, TX8, 32)) X hR hl.1 (c_X8_flaw l g v0 1) (lw_V q1817 q1819 qs57 q125 q1820) rfl rfl mh_X8_flaw rfl (by decide) (by decide) rfl (cat4 (Nat.le_of_ble_eq_true rfl)) dX8_readAll_28 hw) (fun _ h H locs cells slots hR hw => ?_)
        exact t_X8_readAll_J31 X  hw hR (lv_sub hl [0] rfl)
    · have hw := hw.2 c1
      refine r_aload_n X dX8_readAll_6 rfl (lv_at hl 0 rfl) ?_
      refine r_callV X hR (c_V (ci := 8) (q := (RX8, TX8, 32)) X hR hl.1 (c_X8_readLine l g v0) (lw_V q1773 q1775 qs54 q125 q1776) rfl rfl mh_X8_readLine rfl (by decide) (by decide) rfl (cat4 (Nat.le_of_ble_eq_true rfl)) dX8_readAll_7 hw) (fun _ h H locs cells slots hR hw => ?_)
      refine r_aload_n X dX8_readAll_10 rfl (lv_at hl 0 rfl) ?_
      refine r_callI X hR (c_V (ci := 8) (q := (RX8, TX8, 32)) X hR hl.1 (c_X8_eatsSemicolon l g v0) (lw_V q1917 q1919 qs75 q125 q1920) rfl rfl mh_X8_eatsSemicolon rfl (by decide) (by decide) rfl (cat4 (Nat.le_of_ble_eq_true rfl)) dX8_readAll_11 hw) (fun x10 h H locs cells slots hR hw => ?_)
      refine lv_istore_n (i := 1) (lv' := [(1, .int x10), (0, va_rf v0)]) hx hb dX8_readAll_14 rfl hl (by decide) (by simp [cat_rf, cat_int, cat_long]) (fun ls hl => ?_)
      refine lv_goto (tgt := 2) hx hb dX8_readAll_15 (by decide) ?_
      exact k2 hw hR (lv_sub hl [1, 0] rfl)
theorem c_X8_readAll (l : Launch) (g : GT) (v0 : Option Nat) : CT qV l yX8_readAll (ws_ yX8_readAll cX8_readAll 2 none) 13 g [va_rf v0] (fun K E h => w_X8_readAll g v0 K E h) := by
  refine CT_of (lv := [(0, va_rf v0)]) (by decide +kernel) (by simp [lg_sl, cat_rf, cat_int, cat_long]) (by simp [lv_args, cat_rf, cat_int, cat_long]) (fun h0 K E p e s m args below meth c H locs cells slots ls X hxt hmn hw hR hl => ?_)
  have hx := X.hx
  have hb := X.hb
  unfold w_X8_readAll at hw
  refine lv_iconst (v := 1) hx hb dX8_readAll_0 (by decide) ?_
  refine lv_istore_n (i := 1) (lv' := [(1, .int 1), (0, va_rf v0)]) hx hb dX8_readAll_1 rfl hl (by decide) (by simp [cat_rf, cat_int, cat_long]) (fun ls hl => ?_)
  obtain ⟨n, hw⟩ := hw
  exact t_X8_readAll_L2 X  n hw hR (lv_sub hl [1, 0] rfl)
theorem c_X8_isChild (l : Launch) (g : GT) (v0 : Option Nat) (v1 : Int32) : CT qI l yX8_isChild (ws_ yX8_isChild cX8_isChild 2 (Option.some Jvm.ClassFile.FieldType.boolean)) 1 g [va_rf v0, .int v1] (fun K E h => w_X8_isChild g v0 v1 K E h) := by
  refine CT_of (lv := [(0, va_rf v0), (1, .int v1)]) (by decide +kernel) (by simp [lg_sl, cat_rf, cat_int, cat_long]) (by simp [lv_args, cat_rf, cat_int, cat_long]) (fun h0 K E p e s m args below meth c H locs cells slots ls X hxt hmn hw hR hl => ?_)
  have hx := X.hx
  have hb := X.hb
  unfold w_X8_isChild at hw
  refine r_aload_n X dX8_isChild_0 rfl (lv_at hl 0 rfl) ?_
  refine r_gR X hR fk_X8_316 dX8_isChild_1 hw (fun x1 hw => ?_)
  refine r_gR X hR fk_X8_251 dX8_isChild_4 hw (fun x2 hw => ?_)
  refine lv_iload_n hx hb dX8_isChild_7 rfl (lv_at hl 1 rfl) ?_
  refine r_iald X hR dX8_isChild_8 hw (fun x3 hw => ?_)
  refine lv_iconst (v := 1) hx hb dX8_isChild_9 (by decide) ?_
  refine lv_icmp_ne (tgt := 17) hx hb dX8_isChild_10 (by decide) (fun c4 => ?_) (fun c4 => ?_)
  · have hw := hw.1 c4
    refine lv_iconst (v := 0) hx hb dX8_isChild_17 (by decide) ?_
    exact r_zret X hR dX8_isChild_18 hw
  · have hw := hw.2 c4
    refine lv_iconst (v := 1) hx hb dX8_isChild_13 (by decide) ?_
    refine lv_goto (tgt := 18) hx hb dX8_isChild_14 (by decide) ?_
    exact r_zret X hR dX8_isChild_18 hw
theorem t_X8_starts_J81 {p : Program} {l : Launch} {e : Env} {s : State} {m : MethodId} {args : Array Value} {below : List Frame} {meth : Method} {c : Code} {g : GT} {h0 : AH} {v0 : Option Nat} {v1 : Option Nat} {v2 : Int32} {s0 : Int32} {s1 : Int32} {s2 : Option Nat} {K : Unit → AH → Prop} {E : Nat → AH → Prop} {L7 : Int32 → AH → Prop} {h : AH} {H : Heap} {locs : List Loc} {cells slots : Nat} {ls : Array Slot} (X : Cx g h0 p s m args meth c RX8 cX8_starts 4 none) (k7 : ∀ {v2' : Int32} {h : AH} {H : Heap} {locs : List Loc} {cells slots : Nat} {ls : Array Slot}, L7 v2' h → HS g s h H locs → lv_has ls 4 [(0, va_rf v0), (1, va_rf v1), (2, .int (v2'))] → W p l e (RM 2 h0) s m args below meth c H locs cells slots (MQT below g (qV K) E args s h0) (F0 m 7 ls [])) (hw : w_X8_starts_J81 g v0 v1 v2 s0 s1 s2 K E L7 h) (hR : HS g s h H locs) (hl : lv_has ls 4 [(0, va_rf v0), (1, va_rf v1), (2, .int v2)]) : W p l e (RM 2 h0) s m args below meth c H locs cells slots (MQT below g (qV K) E args s h0) (F0 m 81 ls [.int s0, .int s1, va_rf s2]) := by
  have hx := X.hx
  have hb := X.hb
  unfold w_X8_starts_J81 at hw
  refine r_iast X hR dX8_starts_81 hw (fun H locs h hR hw => ?_)
  refine r_iinc X (k := 2) (v := (v2 + 1)) (lv' := fun x6 => [(2, .int x6), (0, va_rf v0), (1, va_rf v1)]) dX8_starts_82 hl rfl rfl (by decide) hw (fun _ => by simp [cat_rf, cat_int, cat_long]) (fun x6 hw ls hl => ?_)
  refine lv_goto (tgt := 7) hx hb dX8_starts_85 (by decide) ?_
  exact k7 hw hR (lv_sub hl [1, 2, 0] rfl)
theorem t_X8_starts_J75 {p : Program} {l : Launch} {e : Env} {s : State} {m : MethodId} {args : Array Value} {below : List Frame} {meth : Method} {c : Code} {g : GT} {h0 : AH} {v0 : Option Nat} {v1 : Option Nat} {v2 : Int32} {s0 : Int32} {s1 : Option Nat} {K : Unit → AH → Prop} {E : Nat → AH → Prop} {L7 : Int32 → AH → Prop} {h : AH} {H : Heap} {locs : List Loc} {cells slots : Nat} {ls : Array Slot} (X : Cx g h0 p s m args meth c RX8 cX8_starts 4 none) (k7 : ∀ {v2' : Int32} {h : AH} {H : Heap} {locs : List Loc} {cells slots : Nat} {ls : Array Slot}, L7 v2' h → HS g s h H locs → lv_has ls 4 [(0, va_rf v0), (1, va_rf v1), (2, .int (v2'))] → W p l e (RM 2 h0) s m args below meth c H locs cells slots (MQT below g (qV K) E args s h0) (F0 m 7 ls [])) (hw : w_X8_starts_J75 g v0 v1 v2 s0 s1 K E L7 h) (hR : HS g s h H locs) (hl : lv_has ls 4 [(0, va_rf v0), (1, va_rf v1), (2, .int v2)]) : W p l e (RM 2 h0) s m args below meth c H locs cells slots (MQT below g (qV K) E args s h0) (F0 m 75 ls [.int s0, va_rf s1]) := by
  have hx := X.hx
  have hb := X.hb
  unfold w_X8_starts_J75 at hw
  refine lv_bipush (v := (-2)) hx hb dX8_starts_75 (by decide) ?_
  refine lv_goto (tgt := 81) hx hb dX8_starts_77 (by decide) ?_
  exact t_X8_starts_J81 X k7 hw hR (lv_sub hl [0, 1, 2] rfl)
theorem t_X8_starts_J37 {p : Program} {l : Launch} {e : Env} {s : State} {m : MethodId} {args : Array Value} {below : List Frame} {meth : Method} {c : Code} {g : GT} {h0 : AH} {v0 : Option Nat} {v1 : Option Nat} {v2 : Int32} {s0 : Int32} {K : Unit → AH → Prop} {E : Nat → AH → Prop} {L7 : Int32 → AH → Prop} {h : AH} {H : Heap} {locs : List Loc} {cells slots : Nat} {ls : Array Slot} (X : Cx g h0 p s m args meth c RX8 cX8_starts 4 none) (k7 : ∀ {v2' : Int32} {h : AH} {H : Heap} {locs : List Loc} {cells slots : Nat} {ls : Array Slot}, L7 v2' h → HS g s h H locs → lv_has ls 4 [(0, va_rf v0), (1, va_rf v1), (2, .int (v2'))] → W p l e (RM 2 h0) s m args below meth c H locs cells slots (MQT below g (qV K) E args s h0) (F0 m 7 ls [])) (hw : w_X8_starts_J37 g v0 v1 v2 s0 K E L7 h) (hR : HS g s h H locs) (hl : lv_has ls 4 [(0, va_rf v0), (1, va_rf v1), (2, .int v2)]) : W p l e (RM 2 h0) s m args below meth c H locs cells slots (MQT below g (qV K) E args s h0) (F0 m 37 ls [.int s0]) := by
  have hx := X.hx
  have hb := X.hb
  unfold w_X8_starts_J37 at hw
  refine lv_istore_n (i := 3) (lv' := [(3, .int s0), (0, va_rf v0), (1, va_rf v1), (2, .int v2)]) hx hb dX8_starts_37 rfl hl (by decide) rfl (fun ls hl => ?_)
  refine r_aload_n X dX8_starts_38 rfl (lv_at hl 2 rfl) ?_
  refine lv_iconst (v := 0) hx hb dX8_starts_39 (by decide) ?_
  refine lv_iload_n hx hb dX8_starts_40 rfl (lv_at hl 3 rfl) ?_
  refine lv_iadd hx hb dX8_starts_41 ?_
  refine lv_iload_n hx hb dX8_starts_42 rfl (lv_at hl 0 rfl) ?_
  refine r_iast X hR dX8_starts_43 hw (fun H locs h hR hw => ?_)
  refine r_aload_n X dX8_starts_44 rfl (lv_at hl 2 rfl) ?_
  refine lv_iconst (v := 5) hx hb dX8_starts_45 (by decide) ?_
  refine lv_iload_n hx hb dX8_starts_46 rfl (lv_at hl 3 rfl) ?_
  refine lv_iadd hx hb dX8_starts_47 ?_
  refine lv_iload_n hx hb dX8_starts_48 rfl (lv_at hl 0 rfl) ?_
  refine lv_bipush (v := (-2)) hx hb dX8_starts_49 (by decide) ?_
  refine lv_icmp_eq (tgt := 75) hx hb dX8_starts_51 (by decide) (fun c5 => ?_) (fun c5 => ?_)
  · have hw := hw.1 c5
    exact t_X8_starts_J75 X k7 hw hR (lv_sub hl [1, 2, 3] rfl)
  · have hw := hw.2 c5
    refine r_aload_n X dX8_starts_54 rfl (lv_at hl 1 rfl) ?_
    refine r_gR X hR fk_X8_316 dX8_starts_55 hw (fun x7 hw => ?_)
    refine r_gR X hR fk_X8_270 dX8_starts_58 hw (fun x8 hw => ?_)
    refine lv_iload_n hx hb dX8_starts_61 rfl (lv_at hl 3 rfl) ?_
    refine r_iald X hR dX8_starts_62 hw (fun x9 hw => ?_)
    refine lv_iconst (v := 2) hx hb dX8_starts_63 (by decide) ?_
    refine lv_icmp_eq (tgt := 75) hx hb dX8_starts_64 (by decide) (fun c10 => ?_) (fun c10 => ?_)
    · have hw := hw.1 c10
      exact t_X8_starts_J75 X k7 hw hR (lv_sub hl [1, 2, 3] rfl)
    · have hw := hw.2 c10
      refine r_aload_n X dX8_starts_67 rfl (lv_at hl 1 rfl) ?_
      refine lv_iload_n hx hb dX8_starts_68 rfl (lv_at hl 0 rfl) ?_
      refine r_callI X hR (c_V (ci := 8) (q := (RX8, TX8, 32)) X hR hl.1 (c_X8_isChild l g v0 s0) (lw_V q1925 q1927 qs77 q125 q1928) rfl rfl mh_X8_isChild rfl (by decide) (by decide) rfl (cat4 (Nat.le_of_ble_eq_true rfl)) dX8_starts_69 hw) (fun x11 h H locs cells slots hR hw => ?_)
      refine lv_if_eq (tgt := 80) hx hb dX8_starts_72 (by decide) (fun c12 => ?_) (fun c12 => ?_)
      · have hw := hw.1 c12
        refine lv_iload_n hx hb dX8_starts_80 rfl (lv_at hl 0 rfl) ?_
        exact t_X8_starts_J81 X k7 hw hR (lv_sub hl [1, 2, 3] rfl)
      · have hw := hw.2 c12
        exact t_X8_starts_J75 X k7 hw hR (lv_sub hl [1, 2, 3] rfl)
theorem t_X8_starts_L7 {p : Program} {l : Launch} {e : Env} {s : State} {m : MethodId} {args : Array Value} {below : List Frame} {meth : Method} {c : Code} {g : GT} {h0 : AH} {v0 : Option Nat} {v1 : Option Nat} {K : Unit → AH → Prop} {E : Nat → AH → Prop} (X : Cx g h0 p s m args meth c RX8 cX8_starts 4 none)  : ∀ (n : Nat) {v2 : Int32} {h : AH} {H : Heap} {locs : List Loc} {cells slots : Nat} {ls : Array Slot}, LpN1 (w_X8_starts_L7 g v0 v1 K E) n v2 h → HS g s h H locs → lv_has ls 4 [(0, va_rf v0), (1, va_rf v1), (2, .int v2)] → W p l e (RM 2 h0) s m args below meth c H locs cells slots (MQT below g (qV K) E args s h0) (F0 m 7 ls []) := by
  have hx := X.hx
  have hb := X.hb
  intro n
  induction n with
  | zero =>
    intro v2 h H locs cells slots ls hw
    exact hw.elim
  | succ n k7 =>
    intro v2 h H locs cells slots ls hw hR hl
    have hw : w_X8_starts_L7 g v0 v1 K E (LpN1 (w_X8_starts_L7 g v0 v1 K E) n) v2 h := hw
    unfold w_X8_starts_L7 at hw
    refine lv_iload_n hx hb dX8_starts_7 rfl (lv_at hl 2 rfl) ?_
    refine lv_iconst (v := 5) hx hb dX8_starts_8 (by decide) ?_
    refine lv_icmp_ge (tgt := 88) hx hb dX8_starts_9 (by decide) (fun c1 => ?_) (fun c1 => ?_)
    · have hw := hw.1 c1
      exact r_vret X hR rfl dX8_starts_88 hw
    · have hw := hw.2 c1
      refine lv_iload_n hx hb dX8_starts_12 rfl (lv_at hl 2 rfl) ?_
      refine r_aload_n X dX8_starts_13 rfl (lv_at hl 0 rfl) ?_
      refine r_gR X hR fk_X8_316 dX8_starts_14 hw (fun x2 hw => ?_)
      refine r_gI X hR fk_X8_194 dX8_starts_17 hw (fun x3 hw => ?_)
      refine lv_icmp_ge (tgt := 35) hx hb dX8_starts_20 (by decide) (fun c4 => ?_) (fun c4 => ?_)
      · have hw := hw.1 c4
        refine lv_bipush (v := (-2)) hx hb dX8_starts_35 (by decide) ?_
        exact t_X8_starts_J37 X k7 hw hR (lv_sub hl [0, 1, 2] rfl)
      · have hw := hw.2 c4
        refine r_aload_n X dX8_starts_23 rfl (lv_at hl 0 rfl) ?_
        refine r_gR X hR fk_X8_316 dX8_starts_24 hw (fun x13 hw => ?_)
        refine r_gR X hR fk_X8_277 dX8_starts_27 hw (fun x14 hw => ?_)
        refine lv_iload_n hx hb dX8_starts_30 rfl (lv_at hl 2 rfl) ?_
        refine r_iald X hR dX8_starts_31 hw (fun x15 hw => ?_)
        refine lv_goto (tgt := 37) hx hb dX8_starts_32 (by decide) ?_
        exact t_X8_starts_J37 X k7 hw hR (lv_sub hl [0, 1, 2] rfl)
theorem c_X8_starts (l : Launch) (g : GT) (v0 : Option Nat) (v1 : Option Nat) : CT qV l yX8_starts (ws_ yX8_starts cX8_starts 4 none) 2 g [va_rf v0, va_rf v1] (fun K E h => w_X8_starts g v0 v1 K E h) := by
  refine CT_of (lv := [(0, va_rf v0), (1, va_rf v1)]) (by decide +kernel) (by simp [lg_sl, cat_rf, cat_int, cat_long]) (by simp [lv_args, cat_rf, cat_int, cat_long]) (fun h0 K E p e s m args below meth c H locs cells slots ls X hxt hmn hw hR hl => ?_)
  have hx := X.hx
  have hb := X.hb
  unfold w_X8_starts at hw
  refine r_aload_n X dX8_starts_0 rfl (lv_at hl 1 rfl) ?_
  refine lv_bipush (v := 10) hx hb dX8_starts_1 (by decide) ?_
  refine lv_iconst (v := 0) hx hb dX8_starts_3 (by decide) ?_
  refine r_iast X hR dX8_starts_4 hw (fun H locs h hR hw => ?_)
  refine lv_iconst (v := 0) hx hb dX8_starts_5 (by decide) ?_
  refine lv_istore_n (i := 2) (lv' := [(2, .int 0), (0, va_rf v0), (1, va_rf v1)]) hx hb dX8_starts_6 rfl hl (by decide) (by simp [cat_rf, cat_int, cat_long]) (fun ls hl => ?_)
  obtain ⟨n, hw⟩ := hw
  exact t_X8_starts_L7 X  n hw hR (lv_sub hl [1, 2, 0] rfl)
theorem c_X8_good (l : Launch) (g : GT) (v0 : Option Nat) (v1 : Int32) : CT qI l yX8_good (ws_ yX8_good cX8_good 2 (Option.some Jvm.ClassFile.FieldType.int)) 1 g [va_rf v0, .int v1] (fun K E h => w_X8_good g v0 v1 K E h) := by
  refine CT_of (lv := [(0, va_rf v0), (1, .int v1)]) (by decide +kernel) (by simp [lg_sl, cat_rf, cat_int, cat_long]) (by simp [lv_args, cat_rf, cat_int, cat_long]) (fun h0 K E p e s m args below meth c H locs cells slots ls X hxt hmn hw hR hl => ?_)
  have hx := X.hx
  have hb := X.hb
  unfold w_X8_good at hw
  refine r_aload_n X dX8_good_0 rfl (lv_at hl 0 rfl) ?_
  refine lv_iconst (v := 0) hx hb dX8_good_1 (by decide) ?_
  refine r_put X hR fp_X8_48 (Or.inl fn_X8_48) (nf_int _) dX8_good_2 hw (fun H locs h hR hw => ?_)
  refine r_aload_n X dX8_good_5 rfl (lv_at hl 0 rfl) ?_
  refine lv_iconst (v := (-1)) hx hb dX8_good_6 (by decide) ?_
  refine r_put X hR fp_X8_9 (Or.inl fn_X8_9) (nf_int _) dX8_good_7 hw (fun H locs h hR hw => ?_)
  refine lv_iload_n hx hb dX8_good_10 rfl (lv_at hl 1 rfl) ?_
  exact r_iret X hR dX8_good_11 hw
theorem t_X8_county_J17 {p : Program} {l : Launch} {e : Env} {s : State} {m : MethodId} {args : Array Value} {below : List Frame} {meth : Method} {c : Code} {g : GT} {h0 : AH} {v0 : Option Nat} {K : Int32 → AH → Prop} {E : Nat → AH → Prop} {h : AH} {H : Heap} {locs : List Loc} {cells slots : Nat} {ls : Array Slot} (X : Cx g h0 p s m args meth c RX8 cX8_county 2 (Option.some Jvm.ClassFile.FieldType.int))  (hw : w_X8_county_J17 g v0 K E h) (hR : HS g s h H locs) (hl : lv_has ls 2 [(0, va_rf v0)]) : W p l e (RM 14 h0) s m args below meth c H locs cells slots (MQT below g (qI K) E args s h0) (F0 m 17 ls []) := by
  have hx := X.hx
  have hb := X.hb
  unfold w_X8_county_J17 at hw
  refine r_aload_n X dX8_county_17 rfl (lv_at hl 0 rfl) ?_
  refine lv_iconst (v := 2) hx hb dX8_county_18 (by decide) ?_
  refine r_callI X hR (c_V (ci := 8) (q := (RX8, TX8, 32)) X hR hl.1 (c_X8_refused l g v0 2) (lw_V q1657 q1659 qs50 q125 q1660) rfl rfl mh_X8_refused rfl (by decide) (by decide) rfl (cat4 (Nat.le_of_ble_eq_true rfl)) dX8_county_19 hw) (fun x2 h H locs cells slots hR hw => ?_)
  exact r_iret X hR dX8_county_22 hw
theorem c_X8_county (l : Launch) (g : GT) (v0 : Option Nat) (v1 : Int32) : CT qI l yX8_county (ws_ yX8_county cX8_county 2 (Option.some Jvm.ClassFile.FieldType.int)) 14 g [va_rf v0, .int v1] (fun K E h => w_X8_county g v0 v1 K E h) := by
  refine CT_of (lv := [(0, va_rf v0), (1, .int v1)]) (by decide +kernel) (by simp [lg_sl, cat_rf, cat_int, cat_long]) (by simp [lv_args, cat_rf, cat_int, cat_long]) (fun h0 K E p e s m args below meth c H locs cells slots ls X hxt hmn hw hR hl => ?_)
  have hx := X.hx
  have hb := X.hb
  unfold w_X8_county at hw
  refine r_aload_n X dX8_county_0 rfl (lv_at hl 0 rfl) ?_
  refine lv_iconst (v := 0) hx hb dX8_county_1 (by decide) ?_
  refine r_put X hR fp_X8_45 (Or.inl fn_X8_45) (nf_int _) dX8_county_2 hw (fun H locs h hR hw => ?_)
  refine lv_iload_n hx hb dX8_county_5 rfl (lv_at hl 1 rfl) ?_
  refine lv_if_lt (tgt := 17) hx hb dX8_county_6 (by decide) (fun c1 => ?_) (fun c1 => ?_)
  · have hw := hw.1 c1
    exact t_X8_county_J17 X  hw hR (lv_sub hl [0] rfl)
  · have hw := hw.2 c1
    refine lv_iload_n hx hb dX8_county_9 rfl (lv_at hl 1 rfl) ?_
    refine r_aload_n X dX8_county_10 rfl (lv_at hl 0 rfl) ?_
    refine r_gI X hR fk_X8_309 dX8_county_11 hw (fun x3 hw => ?_)
    refine lv_icmp_le (tgt := 23) hx hb dX8_county_14 (by decide) (fun c4 => ?_) (fun c4 => ?_)
    · have hw := hw.1 c4
      refine r_aload_n X dX8_county_23 rfl (lv_at hl 0 rfl) ?_
      refine lv_iload_n hx hb dX8_county_24 rfl (lv_at hl 1 rfl) ?_
      refine r_put X hR fp_X8_62 (Or.inl fn_X8_62) (nf_int _) dX8_county_25 hw (fun H locs h hR hw => ?_)
      refine r_aload_n X dX8_county_28 rfl (lv_at hl 0 rfl) ?_
      refine lv_iconst (v := 0) hx hb dX8_county_29 (by decide) ?_
      refine r_put X hR fp_X8_309 (Or.inl fn_X8_309) (nf_int _) dX8_county_30 hw (fun H locs h hR hw => ?_)
      refine r_aload_n X dX8_county_33 rfl (lv_at hl 0 rfl) ?_
      refine lv_iconst (v := 0) hx hb dX8_county_34 (by decide) ?_
      refine r_put X hR fp_X8_80 (Or.inl fn_X8_80) (nf_int _) dX8_county_35 hw (fun H locs h hR hw => ?_)
      refine r_aload_n X dX8_county_38 rfl (lv_at hl 0 rfl) ?_
      refine lv_iconst (v := 0) hx hb dX8_county_39 (by decide) ?_
      refine r_put X hR fp_X8_103 (Or.inl fn_X8_103) (nf_int _) dX8_county_40 hw (fun H locs h hR hw => ?_)
      refine r_aload_n X dX8_county_43 rfl (lv_at hl 0 rfl) ?_
      refine r_new X hR nk_X8_157 dX8_county_44 hw (fun H cells slots x5 h hR hw => ?_)
      refine lv_dup hx hb dX8_county_47 (cat_rf _) ?_
      refine r_callV X hR (c_IN X hR hl.1 (c_X26_init l g x5) (lw_meth q1665) q150 q1663 q1664 rfl mh_X26_init rfl (by decide) (by decide) rfl (cat4 (Nat.le_of_ble_eq_true rfl)) dX8_county_48 hw) (fun _ h H locs cells slots hR hw => ?_)
      refine r_put X hR fp_X8_152 (Or.inl fn_X8_152) (nf_obj _ _) dX8_county_51 hw (fun H locs h hR hw => ?_)
      refine r_aload_n X dX8_county_54 rfl (lv_at hl 0 rfl) ?_
      refine lv_iconst (v := 0) hx hb dX8_county_55 (by decide) ?_
      refine r_put X hR fp_X8_77 (Or.inl fn_X8_77) (nf_int _) dX8_county_56 hw (fun H locs h hR hw => ?_)
      refine r_aload_n X dX8_county_59 rfl (lv_at hl 0 rfl) ?_
      refine r_callV X hR (c_V (ci := 8) (q := (RX8, TX8, 32)) X hR hl.1 (c_X8_goesOn l g v0) (lw_V q1754 q1756 qs51 q125 q1757) rfl rfl mh_X8_goesOn rfl (by decide) (by decide) rfl (cat4 (Nat.le_of_ble_eq_true rfl)) dX8_county_60 hw) (fun _ h H locs cells slots hR hw => ?_)
      refine r_aload_n X dX8_county_63 rfl (lv_at hl 0 rfl) ?_
      refine r_callV X hR (c_V (ci := 8) (q := (RX8, TX8, 32)) X hR hl.1 (c_X8_readAll l g v0) (lw_V q1769 q1771 qs53 q125 q1772) rfl rfl mh_X8_readAll rfl (by decide) (by decide) rfl (cat4 (Nat.le_of_ble_eq_true rfl)) dX8_county_64 hw) (fun _ h H locs cells slots hR hw => ?_)
      refine r_aload_n X dX8_county_67 rfl (lv_at hl 0 rfl) ?_
      refine r_gI X hR fk_X8_103 dX8_county_68 hw (fun x6 hw => ?_)
      refine lv_if_le (tgt := 89) hx hb dX8_county_71 (by decide) (fun c7 => ?_) (fun c7 => ?_)
      · have hw := hw.1 c7
        refine r_aload_n X dX8_county_89 rfl (lv_at hl 0 rfl) ?_
        refine r_aload_n X dX8_county_90 rfl (lv_at hl 0 rfl) ?_
        refine r_gR X hR fk_X8_152 dX8_county_91 hw (fun x8 hw => ?_)
        refine r_put X hR fp_X8_316 (Or.inl fn_X8_316) (nf_obj _ _) dX8_county_94 hw (fun H locs h hR hw => ?_)
        refine r_aload_n X dX8_county_97 rfl (lv_at hl 0 rfl) ?_
        refine r_aload_n X dX8_county_98 rfl (lv_at hl 0 rfl) ?_
        refine r_gR X hR fk_X8_17 dX8_county_99 hw (fun x9 hw => ?_)
        refine r_callV X hR (c_V (ci := 8) (q := (RX8, TX8, 32)) X hR hl.1 (c_X8_starts l g v0 x9) (lw_V q1921 q1923 qs76 q125 q1924) rfl rfl mh_X8_starts rfl (by decide) (by decide) rfl (cat4 (Nat.le_of_ble_eq_true rfl)) dX8_county_102 hw) (fun _ h H locs cells slots hR hw => ?_)
        refine r_aload_n X dX8_county_105 rfl (lv_at hl 0 rfl) ?_
        refine lv_iconst (v := 0) hx hb dX8_county_106 (by decide) ?_
        refine r_put X hR fp_X8_322 (Or.inl fn_X8_322) (nf_int _) dX8_county_107 hw (fun H locs h hR hw => ?_)
        refine r_aload_n X dX8_county_110 rfl (lv_at hl 0 rfl) ?_
        refine lv_iconst (v := 0) hx hb dX8_county_111 (by decide) ?_
        refine r_put X hR fp_X8_325 (Or.inl fn_X8_325) (nf_int _) dX8_county_112 hw (fun H locs h hR hw => ?_)
        refine r_aload_n X dX8_county_115 rfl (lv_at hl 0 rfl) ?_
        refine r_aload_n X dX8_county_116 rfl (lv_at hl 0 rfl) ?_
        refine r_gR X hR fk_X8_316 dX8_county_117 hw (fun x10 hw => ?_)
        refine r_gI X hR fk_X8_194 dX8_county_120 hw (fun x11 hw => ?_)
        refine r_callI X hR (c_V (ci := 8) (q := (RX8, TX8, 32)) X hR hl.1 (c_X8_good l g v0 x11) (lw_V q1929 q1931 qs78 q125 q1932) rfl rfl mh_X8_good rfl (by decide) (by decide) rfl (cat4 (Nat.le_of_ble_eq_true rfl)) dX8_county_123 hw) (fun x12 h H locs cells slots hR hw => ?_)
        exact r_iret X hR dX8_county_126 hw
      · have hw := hw.2 c7
        refine r_aload_n X dX8_county_74 rfl (lv_at hl 0 rfl) ?_
        refine lv_iconst (v := 4) hx hb dX8_county_75 (by decide) ?_
        refine r_put X hR fp_X8_48 (Or.inl fn_X8_48) (nf_int _) dX8_county_76 hw (fun H locs h hR hw => ?_)
        refine r_aload_n X dX8_county_79 rfl (lv_at hl 0 rfl) ?_
        refine r_aload_n X dX8_county_80 rfl (lv_at hl 0 rfl) ?_
        refine r_gI X hR fk_X8_106 dX8_county_81 hw (fun x13 hw => ?_)
        refine r_put X hR fp_X8_9 (Or.inl fn_X8_9) (nf_int _) dX8_county_84 hw (fun H locs h hR hw => ?_)
        refine lv_iconst (v := (-1)) hx hb dX8_county_87 (by decide) ?_
        exact r_iret X hR dX8_county_88 hw
    · have hw := hw.2 c4
      exact t_X8_county_J17 X  hw hR (lv_sub hl [0] rfl)
theorem c_X8_fault (l : Launch) (g : GT) (v0 : Option Nat) : CT qI l yX8_fault (ws_ yX8_fault cX8_fault 1 (Option.some Jvm.ClassFile.FieldType.int)) 1 g [va_rf v0] (fun K E h => w_X8_fault g v0 K E h) := by
  refine CT_of (lv := [(0, va_rf v0)]) (by decide +kernel) (by simp [lg_sl, cat_rf, cat_int, cat_long]) (by simp [lv_args, cat_rf, cat_int, cat_long]) (fun h0 K E p e s m args below meth c H locs cells slots ls X hxt hmn hw hR hl => ?_)
  have hx := X.hx
  have hb := X.hb
  unfold w_X8_fault at hw
  refine r_aload_n X dX8_fault_0 rfl (lv_at hl 0 rfl) ?_
  refine lv_iconst (v := 0) hx hb dX8_fault_1 (by decide) ?_
  refine r_put X hR fp_X8_45 (Or.inl fn_X8_45) (nf_int _) dX8_fault_2 hw (fun H locs h hR hw => ?_)
  refine r_aload_n X dX8_fault_5 rfl (lv_at hl 0 rfl) ?_
  refine r_gI X hR fk_X8_103 dX8_fault_6 hw (fun x1 hw => ?_)
  exact r_iret X hR dX8_fault_9 hw
theorem c_X8_where (l : Launch) (g : GT) (v0 : Option Nat) : CT qI l yX8_where (ws_ yX8_where cX8_where 1 (Option.some Jvm.ClassFile.FieldType.int)) 1 g [va_rf v0] (fun K E h => w_X8_where g v0 K E h) := by
  refine CT_of (lv := [(0, va_rf v0)]) (by decide +kernel) (by simp [lg_sl, cat_rf, cat_int, cat_long]) (by simp [lv_args, cat_rf, cat_int, cat_long]) (fun h0 K E p e s m args below meth c H locs cells slots ls X hxt hmn hw hR hl => ?_)
  have hx := X.hx
  have hb := X.hb
  unfold w_X8_where at hw
  refine r_aload_n X dX8_where_0 rfl (lv_at hl 0 rfl) ?_
  refine lv_iconst (v := 0) hx hb dX8_where_1 (by decide) ?_
  refine r_put X hR fp_X8_45 (Or.inl fn_X8_45) (nf_int _) dX8_where_2 hw (fun H locs h hR hw => ?_)
  refine r_aload_n X dX8_where_5 rfl (lv_at hl 0 rfl) ?_
  refine r_gI X hR fk_X8_9 dX8_where_6 hw (fun x1 hw => ?_)
  exact r_iret X hR dX8_where_9 hw
theorem c_X8_isUmbrella (l : Launch) (g : GT) (v0 : Option Nat) (v1 : Int32) : CT qI l yX8_isUmbrella (ws_ yX8_isUmbrella cX8_isUmbrella 2 (Option.some Jvm.ClassFile.FieldType.boolean)) 1 g [va_rf v0, .int v1] (fun K E h => w_X8_isUmbrella g v0 v1 K E h) := by
  refine CT_of (lv := [(0, va_rf v0), (1, .int v1)]) (by decide +kernel) (by simp [lg_sl, cat_rf, cat_int, cat_long]) (by simp [lv_args, cat_rf, cat_int, cat_long]) (fun h0 K E p e s m args below meth c H locs cells slots ls X hxt hmn hw hR hl => ?_)
  have hx := X.hx
  have hb := X.hb
  unfold w_X8_isUmbrella at hw
  refine r_aload_n X dX8_isUmbrella_0 rfl (lv_at hl 0 rfl) ?_
  refine r_gR X hR fk_X8_316 dX8_isUmbrella_1 hw (fun x1 hw => ?_)
  refine r_ifnull (tgt := 26) X dX8_isUmbrella_4 (by decide) (fun c2 => ?_) (fun c2 => ?_)
  · have hw := hw.1 c2
    refine lv_iconst (v := 0) hx hb dX8_isUmbrella_26 (by decide) ?_
    exact r_zret X hR dX8_isUmbrella_27 hw
  · have hw := hw.2 c2
    refine lv_iload_n hx hb dX8_isUmbrella_7 rfl (lv_at hl 1 rfl) ?_
    refine lv_if_lt (tgt := 26) hx hb dX8_isUmbrella_8 (by decide) (fun c3 => ?_) (fun c3 => ?_)
    · have hw := hw.1 c3
      refine lv_iconst (v := 0) hx hb dX8_isUmbrella_26 (by decide) ?_
      exact r_zret X hR dX8_isUmbrella_27 hw
    · have hw := hw.2 c3
      refine lv_iload_n hx hb dX8_isUmbrella_11 rfl (lv_at hl 1 rfl) ?_
      refine r_aload_n X dX8_isUmbrella_12 rfl (lv_at hl 0 rfl) ?_
      refine r_gR X hR fk_X8_316 dX8_isUmbrella_13 hw (fun x4 hw => ?_)
      refine r_gI X hR fk_X8_194 dX8_isUmbrella_16 hw (fun x5 hw => ?_)
      refine lv_icmp_ge (tgt := 26) hx hb dX8_isUmbrella_19 (by decide) (fun c6 => ?_) (fun c6 => ?_)
      · have hw := hw.1 c6
        refine lv_iconst (v := 0) hx hb dX8_isUmbrella_26 (by decide) ?_
        exact r_zret X hR dX8_isUmbrella_27 hw
      · have hw := hw.2 c6
        refine lv_iconst (v := 1) hx hb dX8_isUmbrella_22 (by decide) ?_
        refine lv_goto (tgt := 27) hx hb dX8_isUmbrella_23 (by decide) ?_
        exact r_zret X hR dX8_isUmbrella_27 hw
