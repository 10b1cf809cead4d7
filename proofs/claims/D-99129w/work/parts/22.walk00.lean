set_option maxRecDepth 100000
theorem c_J0_init (l : Launch) (g : GT) (v0 : Option Nat) : CT qV l yJ0_init (ws_ yJ0_init cJ0_init 1 none) 1 g [va_rf v0] (fun K E h => w_J0_init g v0 K E h) := by
  refine CT_of (lv := [(0, va_rf v0)]) (by decide +kernel) (by simp [lg_sl, cat_rf, cat_int, cat_long]) (by simp [lv_args, cat_rf, cat_int, cat_long]) (fun h0 K E p e s m args below meth c H locs cells slots ls X hxt hmn hw hR hl => ?_)
  have hx := X.hx
  have hb := X.hb
  unfold w_J0_init at hw
  refine r_aload_n X dJ0_init_0 rfl (lv_at hl 0 rfl) ?_
  obtain ⟨z1, hw⟩ := hw
  refine r_objInit X hl.1 z1 q191 q158 q159 (by decide) (cat4 (Nat.le_of_ble_eq_true rfl)) dJ0_init_1 ?_
  refine r_aload_n X dJ0_init_4 rfl (lv_at hl 0 rfl) ?_
  refine r_aload_n X dJ0_init_5 rfl (lv_at hl 0 rfl) ?_
  refine r_put X hR fp_J0_7 (Or.inl fn_J0_7) (nf_obj _ _) dJ0_init_6 hw (fun H locs h hR hw => ?_)
  refine r_aload_n X dJ0_init_9 rfl (lv_at hl 0 rfl) ?_
  refine r_gets X hR (v := va_rf (g.2.2.2.2 0)) (List.mem_of_getElem? (i := 1) rfl) q192 dJ0_init_10 ?_
  refine r_put X hR fp_J0_17 (Or.inl fn_J0_17) (nf_arr _ _) dJ0_init_13 hw (fun H locs h hR hw => ?_)
  refine r_aload_n X dJ0_init_16 rfl (lv_at hl 0 rfl) ?_
  refine r_gets X hR (v := va_rf (g.2.2.2.2 1)) (List.mem_of_getElem? (i := 2) rfl) q194 dJ0_init_17 ?_
  refine r_put X hR fp_J0_24 (Or.inl fn_J0_24) (nf_obj _ _) dJ0_init_20 hw (fun H locs h hR hw => ?_)
  refine r_aload_n X dJ0_init_23 rfl (lv_at hl 0 rfl) ?_
  exact hw.elim
theorem c_J1_init_2 (l : Launch) (g : GT) (v0 : Option Nat) : CT qV l yJ1_init_2 (ws_ yJ1_init_2 cJ1_init_2 1 none) 2 g [va_rf v0] (fun K E h => w_J1_init_2 g v0 K E h) := by
  refine CT_of (lv := [(0, va_rf v0)]) (by decide +kernel) (by simp [lg_sl, cat_rf, cat_int, cat_long]) (by simp [lv_args, cat_rf, cat_int, cat_long]) (fun h0 K E p e s m args below meth c H locs cells slots ls X hxt hmn hw hR hl => ?_)
  have hx := X.hx
  have hb := X.hb
  unfold w_J1_init_2 at hw
  refine r_aload_n X dJ1_init_2_0 rfl (lv_at hl 0 rfl) ?_
  refine r_callV X hR (c_I X hR hl.1 (c_J0_init l g v0) (lw_meth q190) q117 q1539 q189 rfl mh_J0_init rfl (by decide) (by decide) rfl (cat4 (Nat.le_of_ble_eq_true rfl)) dJ1_init_2_1 hw) (fun _ h H locs cells slots hR hw => ?_)
  exact r_vret X hR rfl dJ1_init_2_4 hw
theorem c_J2_init_2 (l : Launch) (g : GT) (v0 : Option Nat) : CT qV l yJ2_init_2 (ws_ yJ2_init_2 cJ2_init_2 1 none) 3 g [va_rf v0] (fun K E h => w_J2_init_2 g v0 K E h) := by
  refine CT_of (lv := [(0, va_rf v0)]) (by decide +kernel) (by simp [lg_sl, cat_rf, cat_int, cat_long]) (by simp [lv_args, cat_rf, cat_int, cat_long]) (fun h0 K E p e s m args below meth c H locs cells slots ls X hxt hmn hw hR hl => ?_)
  have hx := X.hx
  have hb := X.hb
  unfold w_J2_init_2 at hw
  refine r_aload_n X dJ2_init_2_0 rfl (lv_at hl 0 rfl) ?_
  refine r_callV X hR (c_I X hR hl.1 (c_J1_init_2 l g v0) (lw_meth q1538) q118 q1536 q1537 rfl mh_J1_init_2 rfl (by decide) (by decide) rfl (cat4 (Nat.le_of_ble_eq_true rfl)) dJ2_init_2_1 hw) (fun _ h H locs cells slots hR hw => ?_)
  exact r_vret X hR rfl dJ2_init_2_4 hw
theorem c_J9_init (l : Launch) (g : GT) (v0 : Option Nat) : CT qV l yJ9_init (ws_ yJ9_init cJ9_init 1 none) 4 g [va_rf v0] (fun K E h => w_J9_init g v0 K E h) := by
  refine CT_of (lv := [(0, va_rf v0)]) (by decide +kernel) (by simp [lg_sl, cat_rf, cat_int, cat_long]) (by simp [lv_args, cat_rf, cat_int, cat_long]) (fun h0 K E p e s m args below meth c H locs cells slots ls X hxt hmn hw hR hl => ?_)
  have hx := X.hx
  have hb := X.hb
  unfold w_J9_init at hw
  refine r_aload_n X dJ9_init_0 rfl (lv_at hl 0 rfl) ?_
  refine r_callV X hR (c_I X hR hl.1 (c_J2_init_2 l g v0) (lw_meth q1535) q119 q1533 q1534 rfl mh_J2_init_2 rfl (by decide) (by decide) rfl (cat4 (Nat.le_of_ble_eq_true rfl)) dJ9_init_1 hw) (fun _ h H locs cells slots hR hw => ?_)
  exact r_vret X hR rfl dJ9_init_4 hw
theorem t_X1_led_J55 {p : Program} {l : Launch} {e : Env} {s : State} {m : MethodId} {args : Array Value} {below : List Frame} {meth : Method} {c : Code} {g : GT} {h0 : AH} {K : Int32 → AH → Prop} {E : Nat → AH → Prop} {h : AH} {H : Heap} {locs : List Loc} {cells slots : Nat} {ls : Array Slot} (X : Cx g h0 p s m args meth c RX1 cX1_led 4 (Option.some Jvm.ClassFile.FieldType.int)) (hxt : c.exceptionTable.toList = [])  (hw : w_X1_led_J55 g  K E h) (hR : HS g s h H locs) (hl : lv_has ls 4 []) : W p l e (RM 5 h0) s m args below meth c H locs cells slots (MQT below g (qI K) E args s h0) (F0 m 55 ls []) := by
  have hx := X.hx
  have hb := X.hb
  unfold w_X1_led_J55 at hw
  refine r_new X hR nk_X1_311 dX1_led_55 hw (fun H cells slots x3 h hR hw => ?_)
  refine lv_dup hx hb dX1_led_58 (cat_rf _) ?_
  refine r_callV X hR (c_I X hR hl.1 (c_J9_init l g x3) (lw_meth q1532) q151 q1530 q1531 rfl mh_J9_init rfl (by decide) (by decide) rfl (cat4 (Nat.le_of_ble_eq_true rfl)) dX1_led_59 hw) (fun _ h H locs cells slots hR hw => ?_)
  exact r_throw X hxt hR dX1_led_62 hw
theorem t_X1_led_J49 {p : Program} {l : Launch} {e : Env} {s : State} {m : MethodId} {args : Array Value} {below : List Frame} {meth : Method} {c : Code} {g : GT} {h0 : AH} {v0 : Option Nat} {v1 : Int32} {v2 : Int32} {v3 : Int32} {K : Int32 → AH → Prop} {E : Nat → AH → Prop} {L4 : Int32 → Int32 → AH → Prop} {h : AH} {H : Heap} {locs : List Loc} {cells slots : Nat} {ls : Array Slot} (X : Cx g h0 p s m args meth c RX1 cX1_led 4 (Option.some Jvm.ClassFile.FieldType.int)) (hxt : c.exceptionTable.toList = []) (k4 : ∀ {v2' : Int32} {v3' : Int32} {h : AH} {H : Heap} {locs : List Loc} {cells slots : Nat} {ls : Array Slot}, L4 v2' v3' h → HS g s h H locs → lv_has ls 4 [(0, va_rf v0), (1, .int v1), (2, .int (v2')), (3, .int (v3'))] → W p l e (RM 5 h0) s m args below meth c H locs cells slots (MQT below g (qI K) E args s h0) (F0 m 4 ls [])) (hw : w_X1_led_J49 g v0 v1 v2 v3 K E L4 h) (hR : HS g s h H locs) (hl : lv_has ls 4 [(0, va_rf v0), (1, .int v1), (2, .int v2), (3, .int v3)]) : W p l e (RM 5 h0) s m args below meth c H locs cells slots (MQT below g (qI K) E args s h0) (F0 m 49 ls []) := by
  have hx := X.hx
  have hb := X.hb
  unfold w_X1_led_J49 at hw
  refine r_iinc X (k := 3) (v := (v3 + 1)) (lv' := fun x13 => [(3, .int x13), (0, va_rf v0), (1, .int v1), (2, .int v2)]) dX1_led_49 hl rfl rfl (by decide) hw (fun _ => rfl) (fun x13 hw ls hl => ?_)
  refine lv_goto (tgt := 4) hx hb dX1_led_52 (by decide) ?_
  exact k4 hw hR (lv_sub hl [1, 2, 3, 0] rfl)
theorem t_X1_led_L4 {p : Program} {l : Launch} {e : Env} {s : State} {m : MethodId} {args : Array Value} {below : List Frame} {meth : Method} {c : Code} {g : GT} {h0 : AH} {v0 : Option Nat} {v1 : Int32} {K : Int32 → AH → Prop} {E : Nat → AH → Prop} (X : Cx g h0 p s m args meth c RX1 cX1_led 4 (Option.some Jvm.ClassFile.FieldType.int)) (hxt : c.exceptionTable.toList = [])  : ∀ (n : Nat) {v2 : Int32} {v3 : Int32} {h : AH} {H : Heap} {locs : List Loc} {cells slots : Nat} {ls : Array Slot}, LpN2 (w_X1_led_L4 g v0 v1 K E) n v2 v3 h → HS g s h H locs → lv_has ls 4 [(0, va_rf v0), (1, .int v1), (2, .int v2), (3, .int v3)] → W p l e (RM 5 h0) s m args below meth c H locs cells slots (MQT below g (qI K) E args s h0) (F0 m 4 ls []) := by
  have hx := X.hx
  have hb := X.hb
  intro n
  induction n with
  | zero =>
    intro v2 v3 h H locs cells slots ls hw
    exact hw.elim
  | succ n k4 =>
    intro v2 v3 h H locs cells slots ls hw hR hl
    have hw : w_X1_led_L4 g v0 v1 K E (LpN2 (w_X1_led_L4 g v0 v1 K E) n) v2 v3 h := hw
    unfold w_X1_led_L4 at hw
    refine r_aload_n X dX1_led_4 rfl (lv_at hl 0 rfl) ?_
    refine r_gR X hR fk_X1_102 dX1_led_5 hw (fun x1 hw => ?_)
    refine r_ifnull (tgt := 55) X dX1_led_8 (by decide) (fun c2 => ?_) (fun c2 => ?_)
    · have hw := hw.1 c2
      exact t_X1_led_J55 X hxt  hw hR (lv_sub hl [] rfl)
    · have hw := hw.2 c2
      refine lv_iload_n hx hb dX1_led_11 rfl (lv_at hl 3 rfl) ?_
      refine r_aload_n X dX1_led_12 rfl (lv_at hl 0 rfl) ?_
      refine r_gR X hR fk_X1_102 dX1_led_13 hw (fun x4 hw => ?_)
      refine r_gI X hR fk_X1_126 dX1_led_16 hw (fun x5 hw => ?_)
      refine lv_icmp_ge (tgt := 55) hx hb dX1_led_19 (by decide) (fun c6 => ?_) (fun c6 => ?_)
      · have hw := hw.1 c6
        exact t_X1_led_J55 X hxt  hw hR (lv_sub hl [] rfl)
      · have hw := hw.2 c6
        refine r_aload_n X dX1_led_22 rfl (lv_at hl 0 rfl) ?_
        refine r_gR X hR fk_X1_33 dX1_led_23 hw (fun x7 hw => ?_)
        refine r_gR X hR fk_X1_154 dX1_led_26 hw (fun x8 hw => ?_)
        refine lv_iload_n hx hb dX1_led_29 rfl (lv_at hl 3 rfl) ?_
        refine r_iald X hR dX1_led_30 hw (fun x9 hw => ?_)
        refine lv_bipush (v := (-2)) hx hb dX1_led_31 (by decide) ?_
        refine lv_icmp_eq (tgt := 39) hx hb dX1_led_33 (by decide) (fun c10 => ?_) (fun c10 => ?_)
        · have hw := hw.1 c10
          refine lv_iload_n hx hb dX1_led_39 rfl (lv_at hl 2 rfl) ?_
          refine lv_iload_n hx hb dX1_led_40 rfl (lv_at hl 1 rfl) ?_
          refine lv_icmp_ne (tgt := 46) hx hb dX1_led_41 (by decide) (fun c11 => ?_) (fun c11 => ?_)
          · have hw := hw.1 c11
            refine r_iinc X (k := 2) (v := (v2 + 1)) (lv' := fun x12 => [(2, .int x12), (0, va_rf v0), (1, .int v1), (3, .int v3)]) dX1_led_46 hl rfl rfl (by decide) hw (fun _ => rfl) (fun x12 hw ls hl => ?_)
            exact t_X1_led_J49 X hxt k4 hw hR (lv_sub hl [1, 2, 0, 3] rfl)
          · have hw := hw.2 c11
            refine lv_iload_n hx hb dX1_led_44 rfl (lv_at hl 3 rfl) ?_
            exact r_iret X hR dX1_led_45 hw
        · have hw := hw.2 c10
          refine lv_goto (tgt := 49) hx hb dX1_led_36 (by decide) ?_
          exact t_X1_led_J49 X hxt k4 hw hR (lv_sub hl [0, 1, 2, 3] rfl)
theorem c_X1_led (l : Launch) (g : GT) (v0 : Option Nat) (v1 : Int32) : CT qI l yX1_led (ws_ yX1_led cX1_led 4 (Option.some Jvm.ClassFile.FieldType.int)) 5 g [va_rf v0, .int v1] (fun K E h => w_X1_led g v0 v1 K E h) := by
  refine CT_of (lv := [(0, va_rf v0), (1, .int v1)]) (by decide +kernel) (by simp [lg_sl, cat_rf, cat_int, cat_long]) (by simp [lv_args, cat_rf, cat_int, cat_long]) (fun h0 K E p e s m args below meth c H locs cells slots ls X hxt hmn hw hR hl => ?_)
  have hx := X.hx
  have hb := X.hb
  unfold w_X1_led at hw
  refine lv_iconst (v := 0) hx hb dX1_led_0 (by decide) ?_
  refine lv_istore_n (i := 2) (lv' := [(2, .int 0), (0, va_rf v0), (1, .int v1)]) hx hb dX1_led_1 rfl hl (by decide) rfl (fun ls hl => ?_)
  refine lv_iconst (v := 0) hx hb dX1_led_2 (by decide) ?_
  refine lv_istore_n (i := 3) (lv' := [(3, .int 0), (2, .int 0), (0, va_rf v0), (1, .int v1)]) hx hb dX1_led_3 rfl hl (by decide) rfl (fun ls hl => ?_)
  obtain ⟨n, hw⟩ := hw
  exact t_X1_led_L4 X hxt  n hw hR (lv_sub hl [2, 3, 1, 0] rfl)
theorem t_J0_init_2_J41 {p : Program} {l : Launch} {e : Env} {s : State} {m : MethodId} {args : Array Value} {below : List Frame} {meth : Method} {c : Code} {g : GT} {h0 : AH} {v0 : Option Nat} {v1 : Option Nat} {v2 : Option Nat} {v3 : Int32} {K : Unit → AH → Prop} {E : Nat → AH → Prop} {h : AH} {H : Heap} {locs : List Loc} {cells slots : Nat} {ls : Array Slot} (X : Cx g h0 p s m args meth c RJ0 cJ0_init_2 5 none) (hmn : meth.name = "<init>")  (hw : w_J0_init_2_J41 g v0 v1 v2 v3 K E h) (hR : HS g s h H locs) (hl : lv_has ls 5 [(0, va_rf v0), (1, va_rf v1), (2, va_rf v2), (3, .int v3)]) : W p l e (RM 1 h0) s m args below meth c H locs cells slots (MQT below g (qV K) E args s h0) (F0 m 41 ls []) := by
  have hx := X.hx
  have hb := X.hb
  unfold w_J0_init_2_J41 at hw
  refine r_aload_n X dJ0_init_2_41 rfl (lv_at hl 0 rfl) ?_
  refine r_aload_n X dJ0_init_2_42 rfl (lv_at hl 1 rfl) ?_
  refine r_put X hR fp_J0_31 (Or.inl fn_J0_31) (nf_obj _ _) dJ0_init_2_43 hw (fun H locs h hR hw => ?_)
  refine r_aload_n X dJ0_init_2_46 rfl (lv_at hl 0 rfl) ?_
  refine r_aload_n X dJ0_init_2_47 rfl (lv_at hl 2 rfl) ?_
  refine r_put X hR fp_J0_7 (Or.inl fn_J0_7) (nf_obj _ _) dJ0_init_2_48 hw (fun H locs h hR hw => ?_)
  refine lv_iload_n hx hb dJ0_init_2_51 rfl (lv_at hl 3 rfl) ?_
  refine lv_if_ne (tgt := 60) hx hb dJ0_init_2_52 (by decide) (fun c3 => ?_) (fun c3 => ?_)
  · have hw := hw.1 c3
    exact r_vret X hR rfl dJ0_init_2_60 hw
  · have hw := hw.2 c3
    refine r_aload_n X dJ0_init_2_55 rfl (lv_at hl 0 rfl) ?_
    refine r_null X dJ0_init_2_56 ?_
    refine r_put X hR fp_J0_24 (Or.inl fn_J0_24) (nf_obj _ _) dJ0_init_2_57 hw (fun H locs h hR hw => ?_)
    exact r_vret X hR rfl dJ0_init_2_60 hw
theorem c_J0_init_2 (l : Launch) (g : GT) (v0 : Option Nat) (v1 : Option Nat) (v2 : Option Nat) (v3 : Int32) (v4 : Int32) : CT qV l yJ0_init_2 (ws_ yJ0_init_2 cJ0_init_2 5 none) 1 g [va_rf v0, va_rf v1, va_rf v2, .int v3, .int v4] (fun K E h => w_J0_init_2 g v0 v1 v2 v3 v4 K E h) := by
  refine CT_of (lv := [(0, va_rf v0), (1, va_rf v1), (2, va_rf v2), (3, .int v3), (4, .int v4)]) (by decide +kernel) (by simp [lg_sl, cat_rf, cat_int, cat_long]) (by simp [lv_args, cat_rf, cat_int, cat_long]) (fun h0 K E p e s m args below meth c H locs cells slots ls X hxt hmn hw hR hl => ?_)
  have hx := X.hx
  have hb := X.hb
  unfold w_J0_init_2 at hw
  refine r_aload_n X dJ0_init_2_0 rfl (lv_at hl 0 rfl) ?_
  obtain ⟨z1, hw⟩ := hw
  refine r_objInit X hl.1 z1 q191 q158 q159 (by decide) (cat4 (Nat.le_of_ble_eq_true rfl)) dJ0_init_2_1 ?_
  refine r_aload_n X dJ0_init_2_4 rfl (lv_at hl 0 rfl) ?_
  refine r_aload_n X dJ0_init_2_5 rfl (lv_at hl 0 rfl) ?_
  refine r_put X hR fp_J0_7 (Or.inl fn_J0_7) (nf_obj _ _) dJ0_init_2_6 hw (fun H locs h hR hw => ?_)
  refine r_aload_n X dJ0_init_2_9 rfl (lv_at hl 0 rfl) ?_
  refine r_gets X hR (v := va_rf (g.2.2.2.2 0)) (List.mem_of_getElem? (i := 1) rfl) q192 dJ0_init_2_10 ?_
  refine r_put X hR fp_J0_17 (Or.inl fn_J0_17) (nf_arr _ _) dJ0_init_2_13 hw (fun H locs h hR hw => ?_)
  refine r_aload_n X dJ0_init_2_16 rfl (lv_at hl 0 rfl) ?_
  refine r_gets X hR (v := va_rf (g.2.2.2.2 1)) (List.mem_of_getElem? (i := 2) rfl) q194 dJ0_init_2_17 ?_
  refine r_put X hR fp_J0_24 (Or.inl fn_J0_24) (nf_obj _ _) dJ0_init_2_20 hw (fun H locs h hR hw => ?_)
  refine lv_iload hx hb dJ0_init_2_23 (lv_at hl 4 rfl) ?_
  refine lv_if_eq (tgt := 36) hx hb dJ0_init_2_25 (by decide) (fun c2 => ?_) (fun c2 => ?_)
  · have hw := hw.1 c2
    refine r_aload_n X dJ0_init_2_36 rfl (lv_at hl 0 rfl) ?_
    refine r_null X dJ0_init_2_37 ?_
    refine r_put X hR fp_J0_17 (Or.inl fn_J0_17) (nf_arr _ _) dJ0_init_2_38 hw (fun H locs h hR hw => ?_)
    exact t_J0_init_2_J41 X hmn  hw hR (lv_sub hl [0, 1, 2, 3] rfl)
  · have hw := hw.2 c2
    refine r_aload_n X dJ0_init_2_28 rfl (lv_at hl 0 rfl) ?_
    exact hw.elim
theorem c_J1_init (l : Launch) (g : GT) (v0 : Option Nat) (v1 : Option Nat) (v2 : Option Nat) (v3 : Int32) (v4 : Int32) : CT qV l yJ1_init (ws_ yJ1_init cJ1_init 5 none) 2 g [va_rf v0, va_rf v1, va_rf v2, .int v3, .int v4] (fun K E h => w_J1_init g v0 v1 v2 v3 v4 K E h) := by
  refine CT_of (lv := [(0, va_rf v0), (1, va_rf v1), (2, va_rf v2), (3, .int v3), (4, .int v4)]) (by decide +kernel) (by simp [lg_sl, cat_rf, cat_int, cat_long]) (by simp [lv_args, cat_rf, cat_int, cat_long]) (fun h0 K E p e s m args below meth c H locs cells slots ls X hxt hmn hw hR hl => ?_)
  have hx := X.hx
  have hb := X.hb
  unfold w_J1_init at hw
  refine r_aload_n X dJ1_init_0 rfl (lv_at hl 0 rfl) ?_
  refine r_aload_n X dJ1_init_1 rfl (lv_at hl 1 rfl) ?_
  refine r_aload_n X dJ1_init_2 rfl (lv_at hl 2 rfl) ?_
  refine lv_iload_n hx hb dJ1_init_3 rfl (lv_at hl 3 rfl) ?_
  refine lv_iload hx hb dJ1_init_4 (lv_at hl 4 rfl) ?_
  refine r_callV X hR (c_I X hR hl.1 (c_J0_init_2 l g v0 v1 v2 v3 v4) (lw_meth q217) q117 q215 q216 rfl mh_J0_init_2 rfl (by decide) (by decide) rfl (cat4 (Nat.le_of_ble_eq_true rfl)) dJ1_init_6 hw) (fun _ h H locs cells slots hR hw => ?_)
  exact r_vret X hR rfl dJ1_init_9 hw
theorem c_J2_init (l : Launch) (g : GT) (v0 : Option Nat) (v1 : Option Nat) (v2 : Option Nat) (v3 : Int32) (v4 : Int32) : CT qV l yJ2_init (ws_ yJ2_init cJ2_init 5 none) 3 g [va_rf v0, va_rf v1, va_rf v2, .int v3, .int v4] (fun K E h => w_J2_init g v0 v1 v2 v3 v4 K E h) := by
  refine CT_of (lv := [(0, va_rf v0), (1, va_rf v1), (2, va_rf v2), (3, .int v3), (4, .int v4)]) (by decide +kernel) (by simp [lg_sl, cat_rf, cat_int, cat_long]) (by simp [lv_args, cat_rf, cat_int, cat_long]) (fun h0 K E p e s m args below meth c H locs cells slots ls X hxt hmn hw hR hl => ?_)
  have hx := X.hx
  have hb := X.hb
  unfold w_J2_init at hw
  refine r_aload_n X dJ2_init_0 rfl (lv_at hl 0 rfl) ?_
  refine r_aload_n X dJ2_init_1 rfl (lv_at hl 1 rfl) ?_
  refine r_aload_n X dJ2_init_2 rfl (lv_at hl 2 rfl) ?_
  refine lv_iload_n hx hb dJ2_init_3 rfl (lv_at hl 3 rfl) ?_
  refine lv_iload hx hb dJ2_init_4 (lv_at hl 4 rfl) ?_
  refine r_callV X hR (c_I X hR hl.1 (c_J1_init l g v0 v1 v2 v3 v4) (lw_meth q214) q118 q212 q213 rfl mh_J1_init rfl (by decide) (by decide) rfl (cat4 (Nat.le_of_ble_eq_true rfl)) dJ2_init_6 hw) (fun _ h H locs cells slots hR hw => ?_)
  exact r_vret X hR rfl dJ2_init_9 hw
theorem c_X3_init (l : Launch) (g : GT) (v0 : Option Nat) : CT qV l yX3_init (ws_ yX3_init cX3_init 1 none) 4 g [va_rf v0] (fun K E h => w_X3_init g v0 K E h) := by
  refine CT_of (lv := [(0, va_rf v0)]) (by decide +kernel) (by simp [lg_sl, cat_rf, cat_int, cat_long]) (by simp [lv_args, cat_rf, cat_int, cat_long]) (fun h0 K E p e s m args below meth c H locs cells slots ls X hxt hmn hw hR hl => ?_)
  have hx := X.hx
  have hb := X.hb
  unfold w_X3_init at hw
  refine r_aload_n X dX3_init_0 rfl (lv_at hl 0 rfl) ?_
  refine r_null X dX3_init_1 ?_
  refine r_null X dX3_init_2 ?_
  refine lv_iconst (v := 0) hx hb dX3_init_3 (by decide) ?_
  refine lv_iconst (v := 0) hx hb dX3_init_4 (by decide) ?_
  refine r_callV X hR (c_I X hR hl.1 (c_J2_init l g v0 none none 0 0) (lw_meth q211) q119 q209 q210 rfl mh_J2_init rfl (by decide) (by decide) rfl (cat4 (Nat.le_of_ble_eq_true rfl)) dX3_init_5 hw) (fun _ h H locs cells slots hR hw => ?_)
  refine r_aload_n X dX3_init_8 rfl (lv_at hl 0 rfl) ?_
  refine lv_iconst (v := (-1)) hx hb dX3_init_9 (by decide) ?_
  refine r_put X hR fp_X3_9 (Or.inl fn_X3_9) (nf_int _) dX3_init_10 hw (fun H locs h hR hw => ?_)
  exact r_vret X hR rfl dX3_init_13 hw
theorem c_X2_init (l : Launch) (g : GT) (v0 : Option Nat) (v1 : Option Nat) : CT qV l yX2_init (ws_ yX2_init cX2_init 2 none) 5 g [va_rf v0, va_rf v1] (fun K E h => w_X2_init g v0 v1 K E h) := by
  refine CT_of (lv := [(0, va_rf v0), (1, va_rf v1)]) (by decide +kernel) (by simp [lg_sl, cat_rf, cat_int, cat_long]) (by simp [lv_args, cat_rf, cat_int, cat_long]) (fun h0 K E p e s m args below meth c H locs cells slots ls X hxt hmn hw hR hl => ?_)
  have hx := X.hx
  have hb := X.hb
  unfold w_X2_init at hw
  refine r_aload_n X dX2_init_0 rfl (lv_at hl 0 rfl) ?_
  obtain ⟨z1, hw⟩ := hw
  refine r_objInit X hl.1 z1 q165 q158 q159 (by decide) (cat4 (Nat.le_of_ble_eq_true rfl)) dX2_init_1 ?_
  refine r_aload_n X dX2_init_4 rfl (lv_at hl 0 rfl) ?_
  refine r_new X hR nk_X2_9 dX2_init_5 hw (fun H cells slots x2 h hR hw => ?_)
  refine lv_dup hx hb dX2_init_8 (cat_rf _) ?_
  refine r_callV X hR (c_I X hR hl.1 (c_X3_init l g x2) (lw_meth q208) q120 q206 q207 rfl mh_X3_init rfl (by decide) (by decide) rfl (cat4 (Nat.le_of_ble_eq_true rfl)) dX2_init_9 hw) (fun _ h H locs cells slots hR hw => ?_)
  refine r_put X hR fp_X2_12 (Or.inr hmn) (nf_obj _ _) dX2_init_12 hw (fun H locs h hR hw => ?_)
  refine r_aload_n X dX2_init_15 rfl (lv_at hl 0 rfl) ?_
  refine lv_bipush (v := 8) hx hb dX2_init_16 (by decide) ?_
  refine r_newa X hR (atype := .char) (t := 2) q271 (by decide) rfl dX2_init_18 hw (fun H cells slots x3 h hR hw => ?_)
  refine r_put X hR fp_X2_18 (Or.inr hmn) (nf_arr _ _) dX2_init_20 hw (fun H locs h hR hw => ?_)
  refine r_aload_n X dX2_init_23 rfl (lv_at hl 0 rfl) ?_
  refine r_aload_n X dX2_init_24 rfl (lv_at hl 1 rfl) ?_
  refine r_put X hR fp_X2_22 (Or.inr hmn) (nf_arr _ _) dX2_init_25 hw (fun H locs h hR hw => ?_)
  exact r_vret X hR rfl dX2_init_28 hw
theorem c_X4_init (l : Launch) (g : GT) (v0 : Option Nat) : CT qV l yX4_init (ws_ yX4_init cX4_init 1 none) 1 g [va_rf v0] (fun K E h => w_X4_init g v0 K E h) := by
  refine CT_of (lv := [(0, va_rf v0)]) (by decide +kernel) (by simp [lg_sl, cat_rf, cat_int, cat_long]) (by simp [lv_args, cat_rf, cat_int, cat_long]) (fun h0 K E p e s m args below meth c H locs cells slots ls X hxt hmn hw hR hl => ?_)
  have hx := X.hx
  have hb := X.hb
  unfold w_X4_init at hw
  refine r_aload_n X dX4_init_0 rfl (lv_at hl 0 rfl) ?_
  obtain ⟨z1, hw⟩ := hw
  refine r_objInit X hl.1 z1 q277 q158 q159 (by decide) (cat4 (Nat.le_of_ble_eq_true rfl)) dX4_init_1 ?_
  refine r_aload_n X dX4_init_4 rfl (lv_at hl 0 rfl) ?_
  refine lv_iconst (v := 5) hx hb dX4_init_5 (by decide) ?_
  refine r_newa X hR (atype := .int) (t := 0) q301 (by decide) rfl dX4_init_6 hw (fun H cells slots x2 h hR hw => ?_)
  refine r_put X hR fp_X4_9 (Or.inr hmn) (nf_arr _ _) dX4_init_8 hw (fun H locs h hR hw => ?_)
  refine r_aload_n X dX4_init_11 rfl (lv_at hl 0 rfl) ?_
  refine lv_iconst (v := 5) hx hb dX4_init_12 (by decide) ?_
  refine r_newa X hR (atype := .int) (t := 0) q301 (by decide) rfl dX4_init_13 hw (fun H cells slots x3 h hR hw => ?_)
  refine r_put X hR fp_X4_15 (Or.inr hmn) (nf_arr _ _) dX4_init_15 hw (fun H locs h hR hw => ?_)
  exact r_vret X hR rfl dX4_init_18 hw
theorem c_X5_init (l : Launch) (g : GT) (v0 : Option Nat) : CT qV l yX5_init (ws_ yX5_init cX5_init 1 none) 2 g [va_rf v0] (fun K E h => w_X5_init g v0 K E h) := by
  refine CT_of (lv := [(0, va_rf v0)]) (by decide +kernel) (by simp [lg_sl, cat_rf, cat_int, cat_long]) (by simp [lv_args, cat_rf, cat_int, cat_long]) (fun h0 K E p e s m args below meth c H locs cells slots ls X hxt hmn hw hR hl => ?_)
  have hx := X.hx
  have hb := X.hb
  unfold w_X5_init at hw
  refine r_aload_n X dX5_init_0 rfl (lv_at hl 0 rfl) ?_
  obtain ⟨z1, hw⟩ := hw
  refine r_objInit X hl.1 z1 q307 q158 q159 (by decide) (cat4 (Nat.le_of_ble_eq_true rfl)) dX5_init_1 ?_
  refine r_aload_n X dX5_init_4 rfl (lv_at hl 0 rfl) ?_
  refine r_new X hR nk_X5_9 dX5_init_5 hw (fun H cells slots x2 h hR hw => ?_)
  refine lv_dup hx hb dX5_init_8 (cat_rf _) ?_
  refine r_callV X hR (c_IN X hR hl.1 (c_X4_init l g x2) (lw_meth q276) q121 q309 q275 rfl mh_X4_init rfl (by decide) (by decide) rfl (cat4 (Nat.le_of_ble_eq_true rfl)) dX5_init_9 hw) (fun _ h H locs cells slots hR hw => ?_)
  refine r_put X hR fp_X5_12 (Or.inr hmn) (nf_obj _ _) dX5_init_12 hw (fun H locs h hR hw => ?_)
  refine r_aload_n X dX5_init_15 rfl (lv_at hl 0 rfl) ?_
  refine lv_sipush (v := 205) hx hb dX5_init_16 (by decide) ?_
  refine r_newa X hR (atype := .int) (t := 0) q301 (by decide) rfl dX5_init_19 hw (fun H cells slots x3 h hR hw => ?_)
  refine r_put X hR fp_X5_18 (Or.inr hmn) (nf_arr _ _) dX5_init_21 hw (fun H locs h hR hw => ?_)
  refine r_aload_n X dX5_init_24 rfl (lv_at hl 0 rfl) ?_
  refine lv_sipush (v := 205) hx hb dX5_init_25 (by decide) ?_
  refine r_newa X hR (atype := .int) (t := 0) q301 (by decide) rfl dX5_init_28 hw (fun H cells slots x4 h hR hw => ?_)
  refine r_put X hR fp_X5_22 (Or.inr hmn) (nf_arr _ _) dX5_init_30 hw (fun H locs h hR hw => ?_)
  exact r_vret X hR rfl dX5_init_33 hw
theorem t_X6_init_L28 {p : Program} {l : Launch} {e : Env} {s : State} {m : MethodId} {args : Array Value} {below : List Frame} {meth : Method} {c : Code} {g : GT} {h0 : AH} {v0 : Option Nat} {K : Unit → AH → Prop} {E : Nat → AH → Prop} (X : Cx g h0 p s m args meth c RX6 cX6_init 2 none) (hmn : meth.name = "<init>")  : ∀ (n : Nat) {v1 : Int32} {h : AH} {H : Heap} {locs : List Loc} {cells slots : Nat} {ls : Array Slot}, LpN1 (w_X6_init_L28 g v0 K E) n v1 h → HS g s h H locs → lv_has ls 2 [(0, va_rf v0), (1, .int v1)] → W p l e (RM 2 h0) s m args below meth c H locs cells slots (MQT below g (qV K) E args s h0) (F0 m 28 ls []) := by
  have hx := X.hx
  have hb := X.hb
  intro n
  induction n with
  | zero =>
    intro v1 h H locs cells slots ls hw
    exact hw.elim
  | succ n k28 =>
    intro v1 h H locs cells slots ls hw hR hl
    have hw : w_X6_init_L28 g v0 K E (LpN1 (w_X6_init_L28 g v0 K E) n) v1 h := hw
    unfold w_X6_init_L28 at hw
    refine lv_iload_n hx hb dX6_init_28 rfl (lv_at hl 1 rfl) ?_
    refine lv_iconst (v := 3) hx hb dX6_init_29 (by decide) ?_
    refine lv_icmp_gt (tgt := 52) hx hb dX6_init_30 (by decide) (fun c5 => ?_) (fun c5 => ?_)
    · have hw := hw.1 c5
      exact r_vret X hR rfl dX6_init_52 hw
    · have hw := hw.2 c5
      refine r_aload_n X dX6_init_33 rfl (lv_at hl 0 rfl) ?_
      refine r_gR X hR fk_X6_11 dX6_init_34 hw (fun x6 hw => ?_)
      refine lv_iload_n hx hb dX6_init_37 rfl (lv_at hl 1 rfl) ?_
      refine r_new X hR nk_X6_9 dX6_init_38 hw (fun H cells slots x7 h hR hw => ?_)
      refine lv_dup hx hb dX6_init_41 (cat_rf _) ?_
      refine r_callV X hR (c_IN X hR hl.1 (c_X4_init l g x7) (lw_meth q276) q121 q328 q275 rfl mh_X4_init rfl (by decide) (by decide) rfl (cat4 (Nat.le_of_ble_eq_true rfl)) dX6_init_42 hw) (fun _ h H locs cells slots hR hw => ?_)
      refine r_aast X hR (t := 4) (by decide) (by decide) rfl ak_4 dX6_init_45 hw (fun H locs h hR hw => ?_)
      refine r_iinc X (k := 1) (v := (v1 + 1)) (lv' := fun x8 => [(1, .int x8), (0, va_rf v0)]) dX6_init_46 hl rfl rfl (by decide) hw (fun _ => by simp [cat_rf, cat_int, cat_long]) (fun x8 hw ls hl => ?_)
      refine lv_goto (tgt := 28) hx hb dX6_init_49 (by decide) ?_
      exact k28 hw hR (lv_sub hl [1, 0] rfl)
theorem c_X6_init (l : Launch) (g : GT) (v0 : Option Nat) : CT qV l yX6_init (ws_ yX6_init cX6_init 2 none) 2 g [va_rf v0] (fun K E h => w_X6_init g v0 K E h) := by
  refine CT_of (lv := [(0, va_rf v0)]) (by decide +kernel) (by simp [lg_sl, cat_rf, cat_int, cat_long]) (by simp [lv_args, cat_rf, cat_int, cat_long]) (fun h0 K E p e s m args below meth c H locs cells slots ls X hxt hmn hw hR hl => ?_)
  have hx := X.hx
  have hb := X.hb
  unfold w_X6_init at hw
  refine r_aload_n X dX6_init_0 rfl (lv_at hl 0 rfl) ?_
  obtain ⟨z1, hw⟩ := hw
  refine r_objInit X hl.1 z1 q325 q158 q159 (by decide) (cat4 (Nat.le_of_ble_eq_true rfl)) dX6_init_1 ?_
  refine r_aload_n X dX6_init_4 rfl (lv_at hl 0 rfl) ?_
  refine lv_iconst (v := 4) hx hb dX6_init_5 (by decide) ?_
  refine r_anew X hR (t := 4) q326 (by decide) (by decide) q327 rfl dX6_init_6 hw (fun H cells slots x2 h hR hw => ?_)
  refine r_put X hR fp_X6_11 (Or.inr hmn) (nf_arr _ _) dX6_init_9 hw (fun H locs h hR hw => ?_)
  refine r_aload_n X dX6_init_12 rfl (lv_at hl 0 rfl) ?_
  refine lv_iconst (v := 3) hx hb dX6_init_13 (by decide) ?_
  refine r_newa X hR (atype := .int) (t := 0) q301 (by decide) rfl dX6_init_14 hw (fun H cells slots x3 h hR hw => ?_)
  refine r_put X hR fp_X6_17 (Or.inr hmn) (nf_arr _ _) dX6_init_16 hw (fun H locs h hR hw => ?_)
  refine r_aload_n X dX6_init_19 rfl (lv_at hl 0 rfl) ?_
  refine lv_iconst (v := 3) hx hb dX6_init_20 (by decide) ?_
  refine r_newa X hR (atype := .int) (t := 0) q301 (by decide) rfl dX6_init_21 hw (fun H cells slots x4 h hR hw => ?_)
  refine r_put X hR fp_X6_21 (Or.inr hmn) (nf_arr _ _) dX6_init_23 hw (fun H locs h hR hw => ?_)
  refine lv_iconst (v := 0) hx hb dX6_init_26 (by decide) ?_
  refine lv_istore_n (i := 1) (lv' := [(1, .int 0), (0, va_rf v0)]) hx hb dX6_init_27 rfl hl (by decide) (by simp [cat_rf, cat_int, cat_long]) (fun ls hl => ?_)
  obtain ⟨n, hw⟩ := hw
  exact t_X6_init_L28 X hmn  n hw hR (lv_sub hl [1, 0] rfl)
theorem c_X7_init (l : Launch) (g : GT) (v0 : Option Nat) : CT qV l yX7_init (ws_ yX7_init cX7_init 1 none) 1 g [va_rf v0] (fun K E h => w_X7_init g v0 K E h) := by
  refine CT_of (lv := [(0, va_rf v0)]) (by decide +kernel) (by simp [lg_sl, cat_rf, cat_int, cat_long]) (by simp [lv_args, cat_rf, cat_int, cat_long]) (fun h0 K E p e s m args below meth c H locs cells slots ls X hxt hmn hw hR hl => ?_)
  have hx := X.hx
  have hb := X.hb
  unfold w_X7_init at hw
  refine r_aload_n X dX7_init_0 rfl (lv_at hl 0 rfl) ?_
  obtain ⟨z1, hw⟩ := hw
  refine r_objInit X hl.1 z1 q355 q158 q159 (by decide) (cat4 (Nat.le_of_ble_eq_true rfl)) dX7_init_1 ?_
  refine r_aload_n X dX7_init_4 rfl (lv_at hl 0 rfl) ?_
  refine lv_bipush (v := 6) hx hb dX7_init_5 (by decide) ?_
  refine r_newa X hR (atype := .int) (t := 0) q301 (by decide) rfl dX7_init_7 hw (fun H cells slots x2 h hR hw => ?_)
  refine r_put X hR fp_X7_9 (Or.inr hmn) (nf_arr _ _) dX7_init_9 hw (fun H locs h hR hw => ?_)
  refine r_aload_n X dX7_init_12 rfl (lv_at hl 0 rfl) ?_
  refine lv_bipush (v := 6) hx hb dX7_init_13 (by decide) ?_
  refine r_newa X hR (atype := .int) (t := 0) q301 (by decide) rfl dX7_init_15 hw (fun H cells slots x3 h hR hw => ?_)
  refine r_put X hR fp_X7_15 (Or.inr hmn) (nf_arr _ _) dX7_init_17 hw (fun H locs h hR hw => ?_)
  refine r_aload_n X dX7_init_20 rfl (lv_at hl 0 rfl) ?_
  refine lv_iconst (v := 5) hx hb dX7_init_21 (by decide) ?_
  refine r_newa X hR (atype := .int) (t := 0) q301 (by decide) rfl dX7_init_22 hw (fun H cells slots x4 h hR hw => ?_)
  refine r_put X hR fp_X7_18 (Or.inr hmn) (nf_arr _ _) dX7_init_24 hw (fun H locs h hR hw => ?_)
  exact r_vret X hR rfl dX7_init_27 hw
theorem t_X1_init_L156 {p : Program} {l : Launch} {e : Env} {s : State} {m : MethodId} {args : Array Value} {below : List Frame} {meth : Method} {c : Code} {g : GT} {h0 : AH} {v0 : Option Nat} {K : Unit → AH → Prop} {E : Nat → AH → Prop} (X : Cx g h0 p s m args meth c RX1 cX1_init 2 none) (hmn : meth.name = "<init>")  : ∀ (n : Nat) {v1 : Int32} {h : AH} {H : Heap} {locs : List Loc} {cells slots : Nat} {ls : Array Slot}, LpN1 (w_X1_init_L156 g v0 K E) n v1 h → HS g s h H locs → lv_has ls 2 [(0, va_rf v0), (1, .int v1)] → W p l e (RM 6 h0) s m args below meth c H locs cells slots (MQT below g (qV K) E args s h0) (F0 m 156 ls []) := by
  have hx := X.hx
  have hb := X.hb
  intro n
  induction n with
  | zero =>
    intro v1 h H locs cells slots ls hw
    exact hw.elim
  | succ n k156 =>
    intro v1 h H locs cells slots ls hw hR hl
    have hw : w_X1_init_L156 g v0 K E (LpN1 (w_X1_init_L156 g v0 K E) n) v1 h := hw
    unfold w_X1_init_L156 at hw
    refine lv_iload_n hx hb dX1_init_156 rfl (lv_at hl 1 rfl) ?_
    refine lv_iconst (v := 3) hx hb dX1_init_157 (by decide) ?_
    refine lv_icmp_ge (tgt := 180) hx hb dX1_init_158 (by decide) (fun c15 => ?_) (fun c15 => ?_)
    · have hw := hw.1 c15
      exact r_vret X hR rfl dX1_init_180 hw
    · have hw := hw.2 c15
      refine r_aload_n X dX1_init_161 rfl (lv_at hl 0 rfl) ?_
      refine r_gR X hR fk_X1_71 dX1_init_162 hw (fun x16 hw => ?_)
      refine lv_iload_n hx hb dX1_init_165 rfl (lv_at hl 1 rfl) ?_
      refine r_new X hR nk_X1_30 dX1_init_166 hw (fun H cells slots x17 h hR hw => ?_)
      refine lv_dup hx hb dX1_init_169 (cat_rf _) ?_
      refine r_callV X hR (c_IN X hR hl.1 (c_X4_init l g x17) (lw_meth q276) q121 q274 q275 rfl mh_X4_init rfl (by decide) (by decide) rfl (cat4 (Nat.le_of_ble_eq_true rfl)) dX1_init_170 hw) (fun _ h H locs cells slots hR hw => ?_)
      refine r_aast X hR (t := 4) (by decide) (by decide) rfl ak_4 dX1_init_173 hw (fun H locs h hR hw => ?_)
      refine r_iinc X (k := 1) (v := (v1 + 1)) (lv' := fun x18 => [(1, .int x18), (0, va_rf v0)]) dX1_init_174 hl rfl rfl (by decide) hw (fun _ => by simp [cat_rf, cat_int, cat_long]) (fun x18 hw ls hl => ?_)
      refine lv_goto (tgt := 156) hx hb dX1_init_177 (by decide) ?_
      exact k156 hw hR (lv_sub hl [1, 0] rfl)
theorem t_X1_init_L129 {p : Program} {l : Launch} {e : Env} {s : State} {m : MethodId} {args : Array Value} {below : List Frame} {meth : Method} {c : Code} {g : GT} {h0 : AH} {v0 : Option Nat} {K : Unit → AH → Prop} {E : Nat → AH → Prop} (X : Cx g h0 p s m args meth c RX1 cX1_init 2 none) (hmn : meth.name = "<init>")  : ∀ (n : Nat) {v1 : Int32} {h : AH} {H : Heap} {locs : List Loc} {cells slots : Nat} {ls : Array Slot}, LpN1 (w_X1_init_L129 g v0 K E) n v1 h → HS g s h H locs → lv_has ls 2 [(0, va_rf v0), (1, .int v1)] → W p l e (RM 6 h0) s m args below meth c H locs cells slots (MQT below g (qV K) E args s h0) (F0 m 129 ls []) := by
  have hx := X.hx
  have hb := X.hb
  intro n
  induction n with
  | zero =>
    intro v1 h H locs cells slots ls hw
    exact hw.elim
  | succ n k129 =>
    intro v1 h H locs cells slots ls hw hR hl
    have hw : w_X1_init_L129 g v0 K E (LpN1 (w_X1_init_L129 g v0 K E) n) v1 h := hw
    unfold w_X1_init_L129 at hw
    refine lv_iload_n hx hb dX1_init_129 rfl (lv_at hl 1 rfl) ?_
    refine lv_bipush (v := 16) hx hb dX1_init_130 (by decide) ?_
    refine lv_icmp_ge (tgt := 154) hx hb dX1_init_132 (by decide) (fun c14 => ?_) (fun c14 => ?_)
    · have hw := hw.1 c14
      refine lv_iconst (v := 0) hx hb dX1_init_154 (by decide) ?_
      refine lv_istore_n (i := 1) (lv' := [(1, .int 0), (0, va_rf v0)]) hx hb dX1_init_155 rfl hl (by decide) (by simp [cat_rf, cat_int, cat_long]) (fun ls hl => ?_)
      obtain ⟨n, hw⟩ := hw
      exact t_X1_init_L156 X hmn  n hw hR (lv_sub hl [1, 0] rfl)
    · have hw := hw.2 c14
      refine r_aload_n X dX1_init_135 rfl (lv_at hl 0 rfl) ?_
      refine r_gR X hR fk_X1_67 dX1_init_136 hw (fun x19 hw => ?_)
      refine lv_iload_n hx hb dX1_init_139 rfl (lv_at hl 1 rfl) ?_
      refine r_new X hR nk_X1_30 dX1_init_140 hw (fun H cells slots x20 h hR hw => ?_)
      refine lv_dup hx hb dX1_init_143 (cat_rf _) ?_
      refine r_callV X hR (c_IN X hR hl.1 (c_X4_init l g x20) (lw_meth q276) q121 q274 q275 rfl mh_X4_init rfl (by decide) (by decide) rfl (cat4 (Nat.le_of_ble_eq_true rfl)) dX1_init_144 hw) (fun _ h H locs cells slots hR hw => ?_)
      refine r_aast X hR (t := 4) (by decide) (by decide) rfl ak_4 dX1_init_147 hw (fun H locs h hR hw => ?_)
      refine r_iinc X (k := 1) (v := (v1 + 1)) (lv' := fun x21 => [(1, .int x21), (0, va_rf v0)]) dX1_init_148 hl rfl rfl (by decide) hw (fun _ => by simp [cat_rf, cat_int, cat_long]) (fun x21 hw ls hl => ?_)
      refine lv_goto (tgt := 129) hx hb dX1_init_151 (by decide) ?_
      exact k129 hw hR (lv_sub hl [1, 0] rfl)
theorem c_X1_init (l : Launch) (g : GT) (v0 : Option Nat) : CT qV l yX1_init (ws_ yX1_init cX1_init 2 none) 6 g [va_rf v0] (fun K E h => w_X1_init g v0 K E h) := by
  refine CT_of (lv := [(0, va_rf v0)]) (by decide +kernel) (by simp [lg_sl, cat_rf, cat_int, cat_long]) (by simp [lv_args, cat_rf, cat_int, cat_long]) (fun h0 K E p e s m args below meth c H locs cells slots ls X hxt hmn hw hR hl => ?_)
  have hx := X.hx
  have hb := X.hb
  unfold w_X1_init at hw
  refine r_aload_n X dX1_init_0 rfl (lv_at hl 0 rfl) ?_
  obtain ⟨z1, hw⟩ := hw
  refine r_objInit X hl.1 z1 q157 q158 q159 (by decide) (cat4 (Nat.le_of_ble_eq_true rfl)) dX1_init_1 ?_
  refine r_aload_n X dX1_init_4 rfl (lv_at hl 0 rfl) ?_
  refine lv_sipush (v := 1000) hx hb dX1_init_5 (by decide) ?_
  refine r_newa X hR (atype := .byte) (t := 1) q239 (by decide) rfl dX1_init_8 hw (fun H cells slots x2 h hR hw => ?_)
  refine r_put X hR fp_X1_13 (Or.inr hmn) (nf_arr _ _) dX1_init_10 hw (fun H locs h hR hw => ?_)
  refine r_aload_n X dX1_init_13 rfl (lv_at hl 0 rfl) ?_
  refine r_new X hR nk_X1_17 dX1_init_14 hw (fun H cells slots x3 h hR hw => ?_)
  refine lv_dup hx hb dX1_init_17 (cat_rf _) ?_
  refine r_aload_n X dX1_init_18 rfl (lv_at hl 0 rfl) ?_
  refine r_gR X hR fk_X1_13 dX1_init_19 hw (fun x4 hw => ?_)
  refine r_callV X hR (c_I X hR hl.1 (c_X2_init l g x3 x4) (lw_meth q164) q116 q162 q163 rfl mh_X2_init rfl (by decide) (by decide) rfl (cat4 (Nat.le_of_ble_eq_true rfl)) dX1_init_22 hw) (fun _ h H locs cells slots hR hw => ?_)
  refine r_put X hR fp_X1_22 (Or.inr hmn) (nf_obj _ _) dX1_init_25 hw (fun H locs h hR hw => ?_)
  refine r_aload_n X dX1_init_28 rfl (lv_at hl 0 rfl) ?_
  refine lv_iconst (v := (-1)) hx hb dX1_init_29 (by decide) ?_
  refine r_put X hR fp_X1_26 (Or.inl fn_X1_26) (nf_int _) dX1_init_30 hw (fun H locs h hR hw => ?_)
  refine r_aload_n X dX1_init_33 rfl (lv_at hl 0 rfl) ?_
  refine r_new X hR nk_X1_30 dX1_init_34 hw (fun H cells slots x5 h hR hw => ?_)
  refine lv_dup hx hb dX1_init_37 (cat_rf _) ?_
  refine r_callV X hR (c_IN X hR hl.1 (c_X4_init l g x5) (lw_meth q276) q121 q274 q275 rfl mh_X4_init rfl (by decide) (by decide) rfl (cat4 (Nat.le_of_ble_eq_true rfl)) dX1_init_38 hw) (fun _ h H locs cells slots hR hw => ?_)
  refine r_put X hR fp_X1_33 (Or.inr hmn) (nf_obj _ _) dX1_init_41 hw (fun H locs h hR hw => ?_)
  refine r_aload_n X dX1_init_44 rfl (lv_at hl 0 rfl) ?_
  refine r_new X hR nk_X1_30 dX1_init_45 hw (fun H cells slots x6 h hR hw => ?_)
  refine lv_dup hx hb dX1_init_48 (cat_rf _) ?_
  refine r_callV X hR (c_IN X hR hl.1 (c_X4_init l g x6) (lw_meth q276) q121 q274 q275 rfl mh_X4_init rfl (by decide) (by decide) rfl (cat4 (Nat.le_of_ble_eq_true rfl)) dX1_init_49 hw) (fun _ h H locs cells slots hR hw => ?_)
  refine r_put X hR fp_X1_37 (Or.inr hmn) (nf_obj _ _) dX1_init_52 hw (fun H locs h hR hw => ?_)
  refine r_aload_n X dX1_init_55 rfl (lv_at hl 0 rfl) ?_
  refine r_new X hR nk_X1_30 dX1_init_56 hw (fun H cells slots x7 h hR hw => ?_)
  refine lv_dup hx hb dX1_init_59 (cat_rf _) ?_
  refine r_callV X hR (c_IN X hR hl.1 (c_X4_init l g x7) (lw_meth q276) q121 q274 q275 rfl mh_X4_init rfl (by decide) (by decide) rfl (cat4 (Nat.le_of_ble_eq_true rfl)) dX1_init_60 hw) (fun _ h H locs cells slots hR hw => ?_)
  refine r_put X hR fp_X1_40 (Or.inr hmn) (nf_obj _ _) dX1_init_63 hw (fun H locs h hR hw => ?_)
  refine r_aload_n X dX1_init_66 rfl (lv_at hl 0 rfl) ?_
  refine r_new X hR nk_X1_43 dX1_init_67 hw (fun H cells slots x8 h hR hw => ?_)
  refine lv_dup hx hb dX1_init_70 (cat_rf _) ?_
  refine r_callV X hR (c_IN X hR hl.1 (c_X5_init l g x8) (lw_meth q306) q122 q304 q305 rfl mh_X5_init rfl (by decide) (by decide) rfl (cat4 (Nat.le_of_ble_eq_true rfl)) dX1_init_71 hw) (fun _ h H locs cells slots hR hw => ?_)
  refine r_put X hR fp_X1_46 (Or.inr hmn) (nf_obj _ _) dX1_init_74 hw (fun H locs h hR hw => ?_)
  refine r_aload_n X dX1_init_77 rfl (lv_at hl 0 rfl) ?_
  refine r_new X hR nk_X1_43 dX1_init_78 hw (fun H cells slots x9 h hR hw => ?_)
  refine lv_dup hx hb dX1_init_81 (cat_rf _) ?_
  refine r_callV X hR (c_IN X hR hl.1 (c_X5_init l g x9) (lw_meth q306) q122 q304 q305 rfl mh_X5_init rfl (by decide) (by decide) rfl (cat4 (Nat.le_of_ble_eq_true rfl)) dX1_init_82 hw) (fun _ h H locs cells slots hR hw => ?_)
  refine r_put X hR fp_X1_50 (Or.inr hmn) (nf_obj _ _) dX1_init_85 hw (fun H locs h hR hw => ?_)
  refine r_aload_n X dX1_init_88 rfl (lv_at hl 0 rfl) ?_
  refine r_new X hR nk_X1_53 dX1_init_89 hw (fun H cells slots x10 h hR hw => ?_)
  refine lv_dup hx hb dX1_init_92 (cat_rf _) ?_
  refine r_callV X hR (c_I X hR hl.1 (c_X6_init l g x10) (lw_meth q324) q123 q322 q323 rfl mh_X6_init rfl (by decide) (by decide) rfl (cat4 (Nat.le_of_ble_eq_true rfl)) dX1_init_93 hw) (fun _ h H locs cells slots hR hw => ?_)
  refine r_put X hR fp_X1_56 (Or.inr hmn) (nf_obj _ _) dX1_init_96 hw (fun H locs h hR hw => ?_)
  refine r_aload_n X dX1_init_99 rfl (lv_at hl 0 rfl) ?_
  refine r_new X hR nk_X1_60 dX1_init_100 hw (fun H cells slots x11 h hR hw => ?_)
  refine lv_dup hx hb dX1_init_103 (cat_rf _) ?_
  refine r_callV X hR (c_IN X hR hl.1 (c_X7_init l g x11) (lw_meth q354) q124 q352 q353 rfl mh_X7_init rfl (by decide) (by decide) rfl (cat4 (Nat.le_of_ble_eq_true rfl)) dX1_init_104 hw) (fun _ h H locs cells slots hR hw => ?_)
  refine r_put X hR fp_X1_63 (Or.inr hmn) (nf_obj _ _) dX1_init_107 hw (fun H locs h hR hw => ?_)
  refine r_aload_n X dX1_init_110 rfl (lv_at hl 0 rfl) ?_
  refine lv_bipush (v := 16) hx hb dX1_init_111 (by decide) ?_
  refine r_anew X hR (t := 4) q272 (by decide) (by decide) q327 rfl dX1_init_113 hw (fun H cells slots x12 h hR hw => ?_)
  refine r_put X hR fp_X1_67 (Or.inr hmn) (nf_arr _ _) dX1_init_116 hw (fun H locs h hR hw => ?_)
  refine r_aload_n X dX1_init_119 rfl (lv_at hl 0 rfl) ?_
  refine lv_iconst (v := 3) hx hb dX1_init_120 (by decide) ?_
  refine r_anew X hR (t := 4) q272 (by decide) (by decide) q327 rfl dX1_init_121 hw (fun H cells slots x13 h hR hw => ?_)
  refine r_put X hR fp_X1_71 (Or.inr hmn) (nf_arr _ _) dX1_init_124 hw (fun H locs h hR hw => ?_)
  refine lv_iconst (v := 0) hx hb dX1_init_127 (by decide) ?_
  refine lv_istore_n (i := 1) (lv' := [(1, .int 0), (0, va_rf v0)]) hx hb dX1_init_128 rfl hl (by decide) (by simp [cat_rf, cat_int, cat_long]) (fun ls hl => ?_)
  obtain ⟨n, hw⟩ := hw
  exact t_X1_init_L129 X hmn  n hw hR (lv_sub hl [1, 0] rfl)
theorem t_X1_bytes_L3 {p : Program} {l : Launch} {e : Env} {s : State} {m : MethodId} {args : Array Value} {below : List Frame} {meth : Method} {c : Code} {g : GT} {h0 : AH} {v0 : Option Nat} {v1 : Int32} {K : Unit → AH → Prop} {E : Nat → AH → Prop} (X : Cx g h0 p s m args meth c RX1 cX1_bytes 3 none)  : ∀ (n : Nat) {v2 : Int32} {h : AH} {H : Heap} {locs : List Loc} {cells slots : Nat} {ls : Array Slot}, LpN1 (w_X1_bytes_L3 g v0 v1 K E) n v2 h → HS g s h H locs → lv_has ls 3 [(0, va_rf v0), (1, .int v1), (2, .int v2)] → W p l e (RM 1 h0) s m args below meth c H locs cells slots (MQT below g (qV K) E args s h0) (F0 m 3 ls []) := by
  have hx := X.hx
  have hb := X.hb
  intro n
  induction n with
  | zero =>
    intro v2 h H locs cells slots ls hw
    exact hw.elim
  | succ n k3 =>
    intro v2 h H locs cells slots ls hw hR hl
    have hw : w_X1_bytes_L3 g v0 v1 K E (LpN1 (w_X1_bytes_L3 g v0 v1 K E) n) v2 h := hw
    unfold w_X1_bytes_L3 at hw
    refine lv_iload_n hx hb dX1_bytes_3 rfl (lv_at hl 2 rfl) ?_
    refine lv_if_lt (tgt := 36) hx hb dX1_bytes_4 (by decide) (fun c1 => ?_) (fun c1 => ?_)
    · have hw := hw.1 c1
      exact r_vret X hR rfl dX1_bytes_36 hw
    · have hw := hw.2 c1
      refine r_aload_n X dX1_bytes_7 rfl (lv_at hl 0 rfl) ?_
      refine r_gR X hR fk_X1_13 dX1_bytes_8 hw (fun x2 hw => ?_)
      refine r_aload_n X dX1_bytes_11 rfl (lv_at hl 0 rfl) ?_
      refine r_gI X hR fk_X1_80 dX1_bytes_12 hw (fun x3 hw => ?_)
      refine lv_iload_n hx hb dX1_bytes_15 rfl (lv_at hl 1 rfl) ?_
      refine lv_iload_n hx hb dX1_bytes_16 rfl (lv_at hl 2 rfl) ?_
      refine lv_ishr hx hb dX1_bytes_17 ?_
      refine lv_i2b hx hb dX1_bytes_18 rfl ?_
      refine r_bast X hR dX1_bytes_19 hw (fun H locs h hR hw => ?_)
      refine r_aload_n X dX1_bytes_20 rfl (lv_at hl 0 rfl) ?_
      refine lv_dup hx hb dX1_bytes_21 (cat_rf _) ?_
      refine r_gI X hR fk_X1_80 dX1_bytes_22 hw (fun x4 hw => ?_)
      refine lv_iconst (v := 1) hx hb dX1_bytes_25 (by decide) ?_
      refine lv_iadd hx hb dX1_bytes_26 ?_
      refine r_put X hR fp_X1_80 (Or.inl fn_X1_80) (nf_int _) dX1_bytes_27 hw (fun H locs h hR hw => ?_)
      refine r_iinc X (k := 2) (v := (v2 + (-8))) (lv' := fun x5 => [(2, .int x5), (0, va_rf v0), (1, .int v1)]) dX1_bytes_30 hl rfl rfl (by decide) hw (fun _ => rfl) (fun x5 hw ls hl => ?_)
      refine lv_goto (tgt := 3) hx hb dX1_bytes_33 (by decide) ?_
      exact k3 hw hR (lv_sub hl [1, 2, 0] rfl)
theorem c_X1_bytes (l : Launch) (g : GT) (v0 : Option Nat) (v1 : Int32) : CT qV l yX1_bytes (ws_ yX1_bytes cX1_bytes 3 none) 1 g [va_rf v0, .int v1] (fun K E h => w_X1_bytes g v0 v1 K E h) := by
  refine CT_of (lv := [(0, va_rf v0), (1, .int v1)]) (by decide +kernel) (by simp [lg_sl, cat_rf, cat_int, cat_long]) (by simp [lv_args, cat_rf, cat_int, cat_long]) (fun h0 K E p e s m args below meth c H locs cells slots ls X hxt hmn hw hR hl => ?_)
  have hx := X.hx
  have hb := X.hb
  unfold w_X1_bytes at hw
  refine lv_bipush (v := 24) hx hb dX1_bytes_0 (by decide) ?_
  refine lv_istore_n (i := 2) (lv' := [(2, .int 24), (0, va_rf v0), (1, .int v1)]) hx hb dX1_bytes_2 rfl hl (by decide) rfl (fun ls hl => ?_)
  obtain ⟨n, hw⟩ := hw
  exact t_X1_bytes_L3 X  n hw hR (lv_sub hl [1, 2, 0] rfl)
theorem c_X1_feed (l : Launch) (g : GT) (v0 : Option Nat) (v1 : Int32) (v2 : Int32) (v3 : Int32) (v4 : Int32) (v5 : Int32) : CT qI l yX1_feed (ws_ yX1_feed cX1_feed 6 (Option.some Jvm.ClassFile.FieldType.int)) 2 g [va_rf v0, .int v1, .int v2, .int v3, .int v4, .int v5] (fun K E h => w_X1_feed g v0 v1 v2 v3 v4 v5 K E h) := by
  refine CT_of (lv := [(0, va_rf v0), (1, .int v1), (2, .int v2), (3, .int v3), (4, .int v4), (5, .int v5)]) (by decide +kernel) (by simp [lg_sl, cat_rf, cat_int, cat_long]) (by simp [lv_args, cat_rf, cat_int, cat_long]) (fun h0 K E p e s m args below meth c H locs cells slots ls X hxt hmn hw hR hl => ?_)
  have hx := X.hx
  have hb := X.hb
  unfold w_X1_feed at hw
  refine r_aload_n X dX1_feed_0 rfl (lv_at hl 0 rfl) ?_
  refine r_gI X hR fk_X1_80 dX1_feed_1 hw (fun x1 hw => ?_)
  refine lv_bipush (v := 20) hx hb dX1_feed_4 (by decide) ?_
  refine lv_iadd hx hb dX1_feed_6 ?_
  refine lv_sipush (v := 1000) hx hb dX1_feed_7 (by decide) ?_
  refine lv_icmp_le (tgt := 15) hx hb dX1_feed_10 (by decide) (fun c2 => ?_) (fun c2 => ?_)
  · have hw := hw.1 c2
    refine r_aload_n X dX1_feed_15 rfl (lv_at hl 0 rfl) ?_
    refine lv_iload_n hx hb dX1_feed_16 rfl (lv_at hl 1 rfl) ?_
    refine r_callV X hR (c_V (ci := 1) (q := (RX1, TX1, 21)) X hR hl.1 (c_X1_bytes l g v0 v1) (lw_V q446 q448 qs1 q115 q449) rfl rfl mh_X1_bytes rfl (by decide) (by decide) rfl (cat4 (Nat.le_of_ble_eq_true rfl)) dX1_feed_17 hw) (fun _ h H locs cells slots hR hw => ?_)
    refine r_aload_n X dX1_feed_20 rfl (lv_at hl 0 rfl) ?_
    refine lv_iload_n hx hb dX1_feed_21 rfl (lv_at hl 2 rfl) ?_
    refine r_callV X hR (c_V (ci := 1) (q := (RX1, TX1, 21)) X hR hl.1 (c_X1_bytes l g v0 v2) (lw_V q446 q448 qs1 q115 q449) rfl rfl mh_X1_bytes rfl (by decide) (by decide) rfl (cat4 (Nat.le_of_ble_eq_true rfl)) dX1_feed_22 hw) (fun _ h H locs cells slots hR hw => ?_)
    refine r_aload_n X dX1_feed_25 rfl (lv_at hl 0 rfl) ?_
    refine lv_iload_n hx hb dX1_feed_26 rfl (lv_at hl 3 rfl) ?_
    refine r_callV X hR (c_V (ci := 1) (q := (RX1, TX1, 21)) X hR hl.1 (c_X1_bytes l g v0 v3) (lw_V q446 q448 qs1 q115 q449) rfl rfl mh_X1_bytes rfl (by decide) (by decide) rfl (cat4 (Nat.le_of_ble_eq_true rfl)) dX1_feed_27 hw) (fun _ h H locs cells slots hR hw => ?_)
    refine r_aload_n X dX1_feed_30 rfl (lv_at hl 0 rfl) ?_
    refine lv_iload hx hb dX1_feed_31 (lv_at hl 4 rfl) ?_
    refine r_callV X hR (c_V (ci := 1) (q := (RX1, TX1, 21)) X hR hl.1 (c_X1_bytes l g v0 v4) (lw_V q446 q448 qs1 q115 q449) rfl rfl mh_X1_bytes rfl (by decide) (by decide) rfl (cat4 (Nat.le_of_ble_eq_true rfl)) dX1_feed_33 hw) (fun _ h H locs cells slots hR hw => ?_)
    refine r_aload_n X dX1_feed_36 rfl (lv_at hl 0 rfl) ?_
    refine lv_iload hx hb dX1_feed_37 (lv_at hl 5 rfl) ?_
    refine r_callV X hR (c_V (ci := 1) (q := (RX1, TX1, 21)) X hR hl.1 (c_X1_bytes l g v0 v5) (lw_V q446 q448 qs1 q115 q449) rfl rfl mh_X1_bytes rfl (by decide) (by decide) rfl (cat4 (Nat.le_of_ble_eq_true rfl)) dX1_feed_39 hw) (fun _ h H locs cells slots hR hw => ?_)
    refine r_aload_n X dX1_feed_42 rfl (lv_at hl 0 rfl) ?_
    refine r_gI X hR fk_X1_80 dX1_feed_43 hw (fun x3 hw => ?_)
    exact r_iret X hR dX1_feed_46 hw
  · have hw := hw.2 c2
    refine lv_iconst (v := (-1)) hx hb dX1_feed_13 (by decide) ?_
    exact r_iret X hR dX1_feed_14 hw
theorem c_X1_anew (l : Launch) (g : GT) (v0 : Option Nat) : CT qV l yX1_anew (ws_ yX1_anew cX1_anew 1 none) 1 g [va_rf v0] (fun K E h => w_X1_anew g v0 K E h) := by
  refine CT_of (lv := [(0, va_rf v0)]) (by decide +kernel) (by simp [lg_sl, cat_rf, cat_int, cat_long]) (by simp [lv_args, cat_rf, cat_int, cat_long]) (fun h0 K E p e s m args below meth c H locs cells slots ls X hxt hmn hw hR hl => ?_)
  have hx := X.hx
  have hb := X.hb
  unfold w_X1_anew at hw
  refine r_aload_n X dX1_anew_0 rfl (lv_at hl 0 rfl) ?_
  refine lv_iconst (v := 0) hx hb dX1_anew_1 (by decide) ?_
  refine r_put X hR fp_X1_74 (Or.inl fn_X1_74) (nf_int _) dX1_anew_2 hw (fun H locs h hR hw => ?_)
  refine r_aload_n X dX1_anew_5 rfl (lv_at hl 0 rfl) ?_
  refine lv_iconst (v := (-1)) hx hb dX1_anew_6 (by decide) ?_
  refine r_put X hR fp_X1_26 (Or.inl fn_X1_26) (nf_int _) dX1_anew_7 hw (fun H locs h hR hw => ?_)
  exact r_vret X hR rfl dX1_anew_10 hw
theorem c_X1_in (l : Launch) (g : GT) (v0 : Int32) (v1 : Int32) (v2 : Int32) : CT qI l yX1_in (ws_ yX1_in cX1_in 3 (Option.some Jvm.ClassFile.FieldType.boolean)) 1 g [.int v0, .int v1, .int v2] (fun K E h => w_X1_in g v0 v1 v2 K E h) := by
  refine CT_of (lv := [(0, .int v0), (1, .int v1), (2, .int v2)]) (by decide +kernel) (by simp [lg_sl, cat_rf, cat_int, cat_long]) (by simp [lv_args, cat_rf, cat_int, cat_long]) (fun h0 K E p e s m args below meth c H locs cells slots ls X hxt hmn hw hR hl => ?_)
  have hx := X.hx
  have hb := X.hb
  unfold w_X1_in at hw
  refine lv_iload_n hx hb dX1_in_0 rfl (lv_at hl 0 rfl) ?_
  refine lv_iload_n hx hb dX1_in_1 rfl (lv_at hl 1 rfl) ?_
  refine lv_icmp_lt (tgt := 14) hx hb dX1_in_2 (by decide) (fun c1 => ?_) (fun c1 => ?_)
  · have hw := hw.1 c1
    refine lv_iconst (v := 0) hx hb dX1_in_14 (by decide) ?_
    exact r_zret X hR dX1_in_15 hw
  · have hw := hw.2 c1
    refine lv_iload_n hx hb dX1_in_5 rfl (lv_at hl 0 rfl) ?_
    refine lv_iload_n hx hb dX1_in_6 rfl (lv_at hl 2 rfl) ?_
    refine lv_icmp_gt (tgt := 14) hx hb dX1_in_7 (by decide) (fun c2 => ?_) (fun c2 => ?_)
    · have hw := hw.1 c2
      refine lv_iconst (v := 0) hx hb dX1_in_14 (by decide) ?_
      exact r_zret X hR dX1_in_15 hw
    · have hw := hw.2 c2
      refine lv_iconst (v := 1) hx hb dX1_in_10 (by decide) ?_
      refine lv_goto (tgt := 15) hx hb dX1_in_11 (by decide) ?_
      exact r_zret X hR dX1_in_15 hw
theorem c_X1_no (l : Launch) (g : GT) (v0 : Option Nat) (v1 : Int32) : CT qI l yX1_no (ws_ yX1_no cX1_no 2 (Option.some Jvm.ClassFile.FieldType.int)) 1 g [va_rf v0, .int v1] (fun K E h => w_X1_no g v0 v1 K E h) := by
  refine CT_of (lv := [(0, va_rf v0), (1, .int v1)]) (by decide +kernel) (by simp [lg_sl, cat_rf, cat_int, cat_long]) (by simp [lv_args, cat_rf, cat_int, cat_long]) (fun h0 K E p e s m args below meth c H locs cells slots ls X hxt hmn hw hR hl => ?_)
  have hx := X.hx
  have hb := X.hb
  unfold w_X1_no at hw
  refine r_aload_n X dX1_no_0 rfl (lv_at hl 0 rfl) ?_
  refine lv_iload_n hx hb dX1_no_1 rfl (lv_at hl 1 rfl) ?_
  refine r_put X hR fp_X1_74 (Or.inl fn_X1_74) (nf_int _) dX1_no_2 hw (fun H locs h hR hw => ?_)
  refine lv_iconst (v := (-1)) hx hb dX1_no_5 (by decide) ?_
  exact r_iret X hR dX1_no_6 hw
theorem c_X9_init (l : Launch) (g : GT) (v0 : Option Nat) : CT qV l yX9_init (ws_ yX9_init cX9_init 1 none) 1 g [va_rf v0] (fun K E h => w_X9_init g v0 K E h) := by
  refine CT_of (lv := [(0, va_rf v0)]) (by decide +kernel) (by simp [lg_sl, cat_rf, cat_int, cat_long]) (by simp [lv_args, cat_rf, cat_int, cat_long]) (fun h0 K E p e s m args below meth c H locs cells slots ls X hxt hmn hw hR hl => ?_)
  have hx := X.hx
  have hb := X.hb
  unfold w_X9_init at hw
  refine r_aload_n X dX9_init_0 rfl (lv_at hl 0 rfl) ?_
  obtain ⟨z1, hw⟩ := hw
  refine r_objInit X hl.1 z1 q475 q158 q159 (by decide) (cat4 (Nat.le_of_ble_eq_true rfl)) dX9_init_1 ?_
  refine r_aload_n X dX9_init_4 rfl (lv_at hl 0 rfl) ?_
  refine lv_bipush (v := 6) hx hb dX9_init_5 (by decide) ?_
  refine r_anew X hR (t := 5) q476 (by decide) (by decide) q477 rfl dX9_init_7 hw (fun H cells slots x2 h hR hw => ?_)
  refine r_put X hR fp_X9_11 (Or.inr hmn) (nf_arr _ _) dX9_init_10 hw (fun H locs h hR hw => ?_)
  refine r_aload_n X dX9_init_13 rfl (lv_at hl 0 rfl) ?_
  refine lv_iconst (v := 5) hx hb dX9_init_14 (by decide) ?_
  refine r_anew X hR (t := 6) q478 (by decide) (by decide) q479 rfl dX9_init_15 hw (fun H cells slots x3 h hR hw => ?_)
  refine r_put X hR fp_X9_19 (Or.inr hmn) (nf_arr _ _) dX9_init_18 hw (fun H locs h hR hw => ?_)
  refine r_aload_n X dX9_init_21 rfl (lv_at hl 0 rfl) ?_
  refine lv_bipush (v := 16) hx hb dX9_init_22 (by decide) ?_
  refine r_anew X hR (t := 7) q480 (by decide) (by decide) q481 rfl dX9_init_24 hw (fun H cells slots x4 h hR hw => ?_)
  refine r_put X hR fp_X9_25 (Or.inr hmn) (nf_arr _ _) dX9_init_27 hw (fun H locs h hR hw => ?_)
  refine r_aload_n X dX9_init_30 rfl (lv_at hl 0 rfl) ?_
  refine lv_bipush (v := 6) hx hb dX9_init_31 (by decide) ?_
  refine r_anew X hR (t := 8) q482 (by decide) (by decide) q483 rfl dX9_init_33 hw (fun H cells slots x5 h hR hw => ?_)
  refine r_put X hR fp_X9_31 (Or.inr hmn) (nf_arr _ _) dX9_init_36 hw (fun H locs h hR hw => ?_)
  exact r_vret X hR rfl dX9_init_39 hw
theorem c_X2_see (l : Launch) (g : GT) (v0 : Option Nat) (v1 : Int32) : CT qI l yX2_see (ws_ yX2_see cX2_see 2 (Option.some Jvm.ClassFile.FieldType.int)) 1 g [va_rf v0, .int v1] (fun K E h => w_X2_see g v0 v1 K E h) := by
  refine CT_of (lv := [(0, va_rf v0), (1, .int v1)]) (by decide +kernel) (by simp [lg_sl, cat_rf, cat_int, cat_long]) (by simp [lv_args, cat_rf, cat_int, cat_long]) (fun h0 K E p e s m args below meth c H locs cells slots ls X hxt hmn hw hR hl => ?_)
  have hx := X.hx
  have hb := X.hb
  unfold w_X2_see at hw
  refine lv_iload_n hx hb dX2_see_0 rfl (lv_at hl 1 rfl) ?_
  refine r_aload_n X dX2_see_1 rfl (lv_at hl 0 rfl) ?_
  refine r_gI X hR fk_X2_33 dX2_see_2 hw (fun x1 hw => ?_)
  refine lv_icmp_ge (tgt := 21) hx hb dX2_see_5 (by decide) (fun c2 => ?_) (fun c2 => ?_)
  · have hw := hw.1 c2
    refine lv_iconst (v := (-1)) hx hb dX2_see_21 (by decide) ?_
    exact r_iret X hR dX2_see_22 hw
  · have hw := hw.2 c2
    refine r_aload_n X dX2_see_8 rfl (lv_at hl 0 rfl) ?_
    refine r_gR X hR fk_X2_22 dX2_see_9 hw (fun x3 hw => ?_)
    refine lv_iload_n hx hb dX2_see_12 rfl (lv_at hl 1 rfl) ?_
    refine r_bald X hR dX2_see_13 hw (fun x4 hw => ?_)
    refine lv_sipush (v := 255) hx hb dX2_see_14 (by decide) ?_
    refine lv_iand hx hb dX2_see_17 ?_
    refine lv_goto (tgt := 22) hx hb dX2_see_18 (by decide) ?_
    exact r_iret X hR dX2_see_22 hw
theorem c_X2_isSmall (l : Launch) (g : GT) (v0 : Int32) : CT qI l yX2_isSmall (ws_ yX2_isSmall cX2_isSmall 1 (Option.some Jvm.ClassFile.FieldType.boolean)) 2 g [.int v0] (fun K E h => w_X2_isSmall g v0 K E h) := by
  refine CT_of (lv := [(0, .int v0)]) (by decide +kernel) (by simp [lg_sl, cat_rf, cat_int, cat_long]) (by simp [lv_args, cat_rf, cat_int, cat_long]) (fun h0 K E p e s m args below meth c H locs cells slots ls X hxt hmn hw hR hl => ?_)
  have hx := X.hx
  have hb := X.hb
  unfold w_X2_isSmall at hw
  refine lv_iload_n hx hb dX2_isSmall_0 rfl (lv_at hl 0 rfl) ?_
  refine lv_bipush (v := 97) hx hb dX2_isSmall_1 (by decide) ?_
  refine lv_bipush (v := 122) hx hb dX2_isSmall_3 (by decide) ?_
  refine r_callI X hR (c_SN X hR hl.1 (c_X1_in l g v0 97 122) (lw_meth q461) q557 q115 q460 mh_X1_in rfl (by decide) (by decide) rfl (cat4 (Nat.le_of_ble_eq_true rfl)) dX2_isSmall_5 hw) (fun x1 h H locs cells slots hR hw => ?_)
  exact r_zret X hR dX2_isSmall_8 hw
theorem t_J4_checkFromIndexSize_J15 {p : Program} {l : Launch} {e : Env} {s : State} {m : MethodId} {args : Array Value} {below : List Frame} {meth : Method} {c : Code} {g : GT} {h0 : AH} {v0 : Int32} {v1 : Int32} {v2 : Int32} {v3 : Option Nat} {K : Int32 → AH → Prop} {E : Nat → AH → Prop} {h : AH} {H : Heap} {locs : List Loc} {cells slots : Nat} {ls : Array Slot} (X : Cx g h0 p s m args meth c RJ4 cJ4_checkFromIndexSize 4 (Option.some Jvm.ClassFile.FieldType.int))  (hw : w_J4_checkFromIndexSize_J15 g v0 v1 v2 v3 K E h) (hR : HS g s h H locs) (hl : lv_has ls 4 [(0, .int v0), (1, .int v1), (2, .int v2), (3, va_rf v3)]) : W p l e (RM 1 h0) s m args below meth c H locs cells slots (MQT below g (qI K) E args s h0) (F0 m 15 ls []) := by
  have hx := X.hx
  have hb := X.hb
  unfold w_J4_checkFromIndexSize_J15 at hw
  refine r_aload_n X dJ4_checkFromIndexSize_15 rfl (lv_at hl 3 rfl) ?_
  refine lv_iload_n hx hb dJ4_checkFromIndexSize_16 rfl (lv_at hl 0 rfl) ?_
  refine lv_iload_n hx hb dJ4_checkFromIndexSize_17 rfl (lv_at hl 1 rfl) ?_
  refine lv_iload_n hx hb dJ4_checkFromIndexSize_18 rfl (lv_at hl 2 rfl) ?_
  exact hw.elim
theorem c_J4_checkFromIndexSize (l : Launch) (g : GT) (v0 : Int32) (v1 : Int32) (v2 : Int32) (v3 : Option Nat) : CT qI l yJ4_checkFromIndexSize (ws_ yJ4_checkFromIndexSize cJ4_checkFromIndexSize 4 (Option.some Jvm.ClassFile.FieldType.int)) 1 g [.int v0, .int v1, .int v2, va_rf v3] (fun K E h => w_J4_checkFromIndexSize g v0 v1 v2 v3 K E h) := by
  refine CT_of (lv := [(0, .int v0), (1, .int v1), (2, .int v2), (3, va_rf v3)]) (by decide +kernel) (by simp [lg_sl, cat_rf, cat_int, cat_long]) (by simp [lv_args, cat_rf, cat_int, cat_long]) (fun h0 K E p e s m args below meth c H locs cells slots ls X hxt hmn hw hR hl => ?_)
  have hx := X.hx
  have hb := X.hb
  unfold w_J4_checkFromIndexSize at hw
  refine lv_iload_n hx hb dJ4_checkFromIndexSize_0 rfl (lv_at hl 2 rfl) ?_
  refine lv_iload_n hx hb dJ4_checkFromIndexSize_1 rfl (lv_at hl 0 rfl) ?_
  refine lv_ior hx hb dJ4_checkFromIndexSize_2 ?_
  refine lv_iload_n hx hb dJ4_checkFromIndexSize_3 rfl (lv_at hl 1 rfl) ?_
  refine lv_ior hx hb dJ4_checkFromIndexSize_4 ?_
  refine lv_if_lt (tgt := 15) hx hb dJ4_checkFromIndexSize_5 (by decide) (fun c1 => ?_) (fun c1 => ?_)
  · have hw := hw.1 c1
    exact t_J4_checkFromIndexSize_J15 X  hw hR (lv_sub hl [0, 1, 2, 3] rfl)
  · have hw := hw.2 c1
    refine lv_iload_n hx hb dJ4_checkFromIndexSize_8 rfl (lv_at hl 1 rfl) ?_
    refine lv_iload_n hx hb dJ4_checkFromIndexSize_9 rfl (lv_at hl 2 rfl) ?_
    refine lv_iload_n hx hb dJ4_checkFromIndexSize_10 rfl (lv_at hl 0 rfl) ?_
    refine lv_isub hx hb dJ4_checkFromIndexSize_11 ?_
    refine lv_icmp_le (tgt := 23) hx hb dJ4_checkFromIndexSize_12 (by decide) (fun c2 => ?_) (fun c2 => ?_)
    · have hw := hw.1 c2
      refine lv_iload_n hx hb dJ4_checkFromIndexSize_23 rfl (lv_at hl 0 rfl) ?_
      exact r_iret X hR dJ4_checkFromIndexSize_24 hw
    · have hw := hw.2 c2
      exact t_J4_checkFromIndexSize_J15 X  hw hR (lv_sub hl [0, 1, 2, 3] rfl)
theorem c_J3_checkBoundsOffCount (l : Launch) (g : GT) (v0 : Int32) (v1 : Int32) (v2 : Int32) : CT qI l yJ3_checkBoundsOffCount (ws_ yJ3_checkBoundsOffCount cJ3_checkBoundsOffCount 3 (Option.some Jvm.ClassFile.FieldType.int)) 2 g [.int v0, .int v1, .int v2] (fun K E h => w_J3_checkBoundsOffCount g v0 v1 v2 K E h) := by
  refine CT_of (lv := [(0, .int v0), (1, .int v1), (2, .int v2)]) (by decide +kernel) (by simp [lg_sl, cat_rf, cat_int, cat_long]) (by simp [lv_args, cat_rf, cat_int, cat_long]) (fun h0 K E p e s m args below meth c H locs cells slots ls X hxt hmn hw hR hl => ?_)
  have hx := X.hx
  have hb := X.hb
  unfold w_J3_checkBoundsOffCount at hw
  refine lv_iload_n hx hb dJ3_checkBoundsOffCount_0 rfl (lv_at hl 0 rfl) ?_
  refine lv_iload_n hx hb dJ3_checkBoundsOffCount_1 rfl (lv_at hl 1 rfl) ?_
  refine lv_iload_n hx hb dJ3_checkBoundsOffCount_2 rfl (lv_at hl 2 rfl) ?_
  refine r_gets X hR (v := va_rf (g.2.2.2.2 2)) (List.mem_of_getElem? (i := 3) rfl) q569 dJ3_checkBoundsOffCount_3 ?_
  refine r_callI X hR (c_S X hR hl.1 (c_J4_checkFromIndexSize l g v0 v1 v2 (g.2.2.2.2 2)) (lw_S q571 q572 q128 q573) mh_J4_checkFromIndexSize rfl (by decide) (by decide) rfl (cat4 (Nat.le_of_ble_eq_true rfl)) dJ3_checkBoundsOffCount_6 hw) (fun x1 h H locs cells slots hR hw => ?_)
  exact r_iret X hR dJ3_checkBoundsOffCount_9 hw
theorem c_J3_rangeCheck (l : Launch) (g : GT) (v0 : Option Nat) (v1 : Int32) (v2 : Int32) : CT qR l yJ3_rangeCheck (ws_ yJ3_rangeCheck cJ3_rangeCheck 3 (Option.some (Jvm.ClassFile.FieldType.object "java/lang/Void"))) 3 g [va_rf v0, .int v1, .int v2] (fun K E h => w_J3_rangeCheck g v0 v1 v2 K E h) := by
  refine CT_of (lv := [(0, va_rf v0), (1, .int v1), (2, .int v2)]) (by decide +kernel) (by simp [lg_sl, cat_rf, cat_int, cat_long]) (by simp [lv_args, cat_rf, cat_int, cat_long]) (fun h0 K E p e s m args below meth c H locs cells slots ls X hxt hmn hw hR hl => ?_)
  have hx := X.hx
  have hb := X.hb
  unfold w_J3_rangeCheck at hw
  refine lv_iload_n hx hb dJ3_rangeCheck_0 rfl (lv_at hl 1 rfl) ?_
  refine lv_iload_n hx hb dJ3_rangeCheck_1 rfl (lv_at hl 2 rfl) ?_
  refine r_aload_n X dJ3_rangeCheck_2 rfl (lv_at hl 0 rfl) ?_
  refine r_alen X hR dJ3_rangeCheck_3 hw (fun x1 hw => ?_)
  refine r_callI X hR (c_S X hR hl.1 (c_J3_checkBoundsOffCount l g v1 v2 x1) (lw_S q566 q567 q127 q568) mh_J3_checkBoundsOffCount rfl (by decide) (by decide) rfl (cat4 (Nat.le_of_ble_eq_true rfl)) dJ3_rangeCheck_4 hw) (fun x2 h H locs cells slots hR hw => ?_)
  refine lv_pop hx hb dJ3_rangeCheck_7 rfl ?_
  refine r_null X dJ3_rangeCheck_8 ?_
  exact r_aret X (Or.inl ⟨_, rfl⟩) hR dJ3_rangeCheck_9 hw
theorem t_J5_compress_2_L3 {p : Program} {l : Launch} {e : Env} {s : State} {m : MethodId} {args : Array Value} {below : List Frame} {meth : Method} {c : Code} {g : GT} {h0 : AH} {v0 : Option Nat} {v2 : Option Nat} {v4 : Int32} {K : Int32 → AH → Prop} {E : Nat → AH → Prop} (X : Cx g h0 p s m args meth c RJ5 cJ5_compress_2 7 (Option.some Jvm.ClassFile.FieldType.int))  : ∀ (n : Nat) {v1 : Int32} {v3 : Int32} {v5 : Int32} {h : AH} {H : Heap} {locs : List Loc} {cells slots : Nat} {ls : Array Slot}, LpN3 (w_J5_compress_2_L3 g v0 v2 v4 K E) n v1 v3 v5 h → HS g s h H locs → lv_has ls 7 [(0, va_rf v0), (1, .int v1), (2, va_rf v2), (3, .int v3), (4, .int v4), (5, .int v5)] → W p l e (RM 1 h0) s m args below meth c H locs cells slots (MQT below g (qI K) E args s h0) (F0 m 3 ls []) := by
  have hx := X.hx
  have hb := X.hb
  intro n
  induction n with
  | zero =>
    intro v1 v3 v5 h H locs cells slots ls hw
    exact hw.elim
  | succ n k3 =>
    intro v1 v3 v5 h H locs cells slots ls hw hR hl
    have hw : w_J5_compress_2_L3 g v0 v2 v4 K E (LpN3 (w_J5_compress_2_L3 g v0 v2 v4 K E) n) v1 v3 v5 h := hw
    unfold w_J5_compress_2_L3 at hw
    refine lv_iload hx hb dJ5_compress_2_3 (lv_at hl 5 rfl) ?_
    refine lv_iload hx hb dJ5_compress_2_5 (lv_at hl 4 rfl) ?_
    refine lv_icmp_ge (tgt := 44) hx hb dJ5_compress_2_7 (by decide) (fun c1 => ?_) (fun c1 => ?_)
    · have hw := hw.1 c1
      refine lv_iload hx hb dJ5_compress_2_44 (lv_at hl 4 rfl) ?_
      exact r_iret X hR dJ5_compress_2_46 hw
    · have hw := hw.2 c1
      refine r_aload_n X dJ5_compress_2_10 rfl (lv_at hl 0 rfl) ?_
      refine lv_iload_n hx hb dJ5_compress_2_11 rfl (lv_at hl 1 rfl) ?_
      refine r_cald X hR dJ5_compress_2_12 hw (fun x2 hw => ?_)
      refine lv_istore (i := 6) (lv' := [(6, .int x2), (0, va_rf v0), (1, .int v1), (2, va_rf v2), (3, .int v3), (4, .int v4), (5, .int v5)]) hx hb dJ5_compress_2_13 hl (by decide) rfl (fun ls hl => ?_)
      refine lv_iload hx hb dJ5_compress_2_15 (lv_at hl 0 rfl) ?_
      refine lv_sipush (v := 255) hx hb dJ5_compress_2_17 (by decide) ?_
      refine lv_icmp_le (tgt := 26) hx hb dJ5_compress_2_20 (by decide) (fun c3 => ?_) (fun c3 => ?_)
      · have hw := hw.1 c3
        refine r_aload_n X dJ5_compress_2_26 rfl (lv_at hl 3 rfl) ?_
        refine lv_iload_n hx hb dJ5_compress_2_27 rfl (lv_at hl 4 rfl) ?_
        refine lv_iload hx hb dJ5_compress_2_28 (lv_at hl 0 rfl) ?_
        refine lv_i2b hx hb dJ5_compress_2_30 rfl ?_
        refine r_bast X hR dJ5_compress_2_31 hw (fun H locs h hR hw => ?_)
        refine r_iinc X (k := 2) (v := (v1 + 1)) (lv' := fun x4 => [(1, .int x4), (6, .int x2), (0, va_rf v0), (2, va_rf v2), (3, .int v3), (4, .int v4), (5, .int v5)]) dJ5_compress_2_32 hl rfl rfl (by decide) hw (fun _ => by simp [cat_rf, cat_int, cat_long]) (fun x4 hw ls hl => ?_)
        refine r_iinc X (k := 4) (v := (v3 + 1)) (lv' := fun x5 => [(3, .int x5), (1, .int x4), (6, .int x2), (0, va_rf v0), (2, va_rf v2), (4, .int v4), (5, .int v5)]) dJ5_compress_2_35 hl rfl rfl (by decide) hw (fun _ => by simp [cat_rf, cat_int, cat_long]) (fun x5 hw ls hl => ?_)
        refine r_iinc X (k := 6) (v := (v5 + 1)) (lv' := fun x6 => [(5, .int x6), (3, .int x5), (1, .int x4), (6, .int x2), (0, va_rf v0), (2, va_rf v2), (4, .int v4)]) dJ5_compress_2_38 hl rfl rfl (by decide) hw (fun _ => rfl) (fun x6 hw ls hl => ?_)
        refine lv_goto (tgt := 3) hx hb dJ5_compress_2_41 (by decide) ?_
        exact k3 hw hR (lv_sub hl [4, 2, 5, 1, 6, 0] rfl)
      · have hw := hw.2 c3
        refine lv_iload hx hb dJ5_compress_2_23 (lv_at hl 6 rfl) ?_
        exact r_iret X hR dJ5_compress_2_25 hw
theorem c_J5_compress_2 (l : Launch) (g : GT) (v0 : Option Nat) (v1 : Int32) (v2 : Option Nat) (v3 : Int32) (v4 : Int32) : CT qI l yJ5_compress_2 (ws_ yJ5_compress_2 cJ5_compress_2 7 (Option.some Jvm.ClassFile.FieldType.int)) 1 g [va_rf v0, .int v1, va_rf v2, .int v3, .int v4] (fun K E h => w_J5_compress_2 g v0 v1 v2 v3 v4 K E h) := by
  refine CT_of (lv := [(0, va_rf v0), (1, .int v1), (2, va_rf v2), (3, .int v3), (4, .int v4)]) (by decide +kernel) (by simp [lg_sl, cat_rf, cat_int, cat_long]) (by simp [lv_args, cat_rf, cat_int, cat_long]) (fun h0 K E p e s m args below meth c H locs cells slots ls X hxt hmn hw hR hl => ?_)
  have hx := X.hx
  have hb := X.hb
  unfold w_J5_compress_2 at hw
  refine lv_iconst (v := 0) hx hb dJ5_compress_2_0 (by decide) ?_
  refine lv_istore (i := 5) (lv' := [(5, .int 0), (0, va_rf v0), (1, .int v1), (2, va_rf v2), (3, .int v3), (4, .int v4)]) hx hb dJ5_compress_2_1 hl (by decide) rfl (fun ls hl => ?_)
  obtain ⟨n, hw⟩ := hw
  exact t_J5_compress_2_L3 X  n hw hR (lv_sub hl [1, 2, 3, 4, 5, 0] rfl)
theorem c_J5_newBytesLength (l : Launch) (g : GT) (v0 : Int32) : CT qI l yJ5_newBytesLength (ws_ yJ5_newBytesLength cJ5_newBytesLength 1 (Option.some Jvm.ClassFile.FieldType.int)) 1 g [.int v0] (fun K E h => w_J5_newBytesLength g v0 K E h) := by
  refine CT_of (lv := [(0, .int v0)]) (by decide +kernel) (by simp [lg_sl, cat_rf, cat_int, cat_long]) (by simp [lv_args, cat_rf, cat_int, cat_long]) (fun h0 K E p e s m args below meth c H locs cells slots ls X hxt hmn hw hR hl => ?_)
  have hx := X.hx
  have hb := X.hb
  unfold w_J5_newBytesLength at hw
  refine lv_iload_n hx hb dJ5_newBytesLength_0 rfl (lv_at hl 0 rfl) ?_
  refine lv_if_ge (tgt := 12) hx hb dJ5_newBytesLength_1 (by decide) (fun c1 => ?_) (fun c1 => ?_)
  · have hw := hw.1 c1
    refine lv_iload_n hx hb dJ5_newBytesLength_12 rfl (lv_at hl 0 rfl) ?_
    refine lv_ldc hx hb X.hown (X.hts _ q596) dJ5_newBytesLength_13 ?_
    refine lv_icmp_lt (tgt := 55) hx hb dJ5_newBytesLength_15 (by decide) (fun c2 => ?_) (fun c2 => ?_)
    · have hw := hw.1 c2
      refine lv_iload_n hx hb dJ5_newBytesLength_55 rfl (lv_at hl 0 rfl) ?_
      refine lv_iconst (v := 1) hx hb dJ5_newBytesLength_56 (by decide) ?_
      refine lv_ishl hx hb dJ5_newBytesLength_57 ?_
      exact r_iret X hR dJ5_newBytesLength_58 hw
    · have hw := hw.2 c2
      exact hw.elim
  · have hw := hw.2 c1
    exact hw.elim
theorem c_J5_newBytesFor (l : Launch) (g : GT) (v0 : Int32) : CT qR l yJ5_newBytesFor (ws_ yJ5_newBytesFor cJ5_newBytesFor 1 (Option.some (Jvm.ClassFile.FieldType.array Jvm.ClassFile.FieldType.byte))) 2 g [.int v0] (fun K E h => w_J5_newBytesFor g v0 K E h) := by
  refine CT_of (lv := [(0, .int v0)]) (by decide +kernel) (by simp [lg_sl, cat_rf, cat_int, cat_long]) (by simp [lv_args, cat_rf, cat_int, cat_long]) (fun h0 K E p e s m args below meth c H locs cells slots ls X hxt hmn hw hR hl => ?_)
  have hx := X.hx
  have hb := X.hb
  unfold w_J5_newBytesFor at hw
  refine lv_iload_n hx hb dJ5_newBytesFor_0 rfl (lv_at hl 0 rfl) ?_
  refine r_callI X hR (c_S X hR hl.1 (c_J5_newBytesLength l g v0) (lw_S q593 q594 q129 q595) mh_J5_newBytesLength rfl (by decide) (by decide) rfl (cat4 (Nat.le_of_ble_eq_true rfl)) dJ5_newBytesFor_1 hw) (fun x1 h H locs cells slots hR hw => ?_)
  refine r_newa X hR (atype := .byte) (t := 1) q239 (by decide) rfl dJ5_newBytesFor_4 hw (fun H cells slots x2 h hR hw => ?_)
  exact r_aret X (Or.inr ⟨_, rfl⟩) hR dJ5_newBytesFor_6 hw
theorem c_J5_length (l : Launch) (g : GT) (v0 : Option Nat) : CT qI l yJ5_length (ws_ yJ5_length cJ5_length 1 (Option.some Jvm.ClassFile.FieldType.int)) 1 g [va_rf v0] (fun K E h => w_J5_length g v0 K E h) := by
  refine CT_of (lv := [(0, va_rf v0)]) (by decide +kernel) (by simp [lg_sl, cat_rf, cat_int, cat_long]) (by simp [lv_args, cat_rf, cat_int, cat_long]) (fun h0 K E p e s m args below meth c H locs cells slots ls X hxt hmn hw hR hl => ?_)
  have hx := X.hx
  have hb := X.hb
  unfold w_J5_length at hw
  refine r_aload_n X dJ5_length_0 rfl (lv_at hl 0 rfl) ?_
  refine r_alen X hR dJ5_length_1 hw (fun x1 hw => ?_)
  refine lv_iconst (v := 1) hx hb dJ5_length_2 (by decide) ?_
  refine lv_ishr hx hb dJ5_length_3 ?_
  exact r_iret X hR dJ5_length_4 hw
theorem t_J5_putChar_J28 {p : Program} {l : Launch} {e : Env} {s : State} {m : MethodId} {args : Array Value} {below : List Frame} {meth : Method} {c : Code} {g : GT} {h0 : AH} {v0 : Option Nat} {v1 : Int32} {v2 : Int32} {K : Unit → AH → Prop} {E : Nat → AH → Prop} {h : AH} {H : Heap} {locs : List Loc} {cells slots : Nat} {ls : Array Slot} (X : Cx g h0 p s m args meth c RJ5 cJ5_putChar 3 none)  (hw : w_J5_putChar_J28 g v0 v1 v2 K E h) (hR : HS g s h H locs) (hl : lv_has ls 3 [(0, va_rf v0), (1, .int v1), (2, .int v2)]) : W p l e (RM 2 h0) s m args below meth c H locs cells slots (MQT below g (qV K) E args s h0) (F0 m 28 ls []) := by
  have hx := X.hx
  have hb := X.hb
  unfold w_J5_putChar_J28 at hw
  refine lv_iload_n hx hb dJ5_putChar_28 rfl (lv_at hl 1 rfl) ?_
  refine lv_iconst (v := 1) hx hb dJ5_putChar_29 (by decide) ?_
  refine lv_ishl hx hb dJ5_putChar_30 ?_
  refine r_nmI hw (fun x2 hw => ?_)
  refine lv_istore_n (i := 1) (lv' := [(1, .int x2), (0, va_rf v0), (2, .int v2)]) hx hb dJ5_putChar_31 rfl hl (by decide) (by simp [cat_rf, cat_int, cat_long]) (fun ls hl => ?_)
  refine r_aload_n X dJ5_putChar_32 rfl (lv_at hl 1 rfl) ?_
  refine lv_iload_n hx hb dJ5_putChar_33 rfl (lv_at hl 0 rfl) ?_
  refine r_iinc X (k := 0) (v := (x2 + 1)) (lv' := fun x3 => [(1, .int x3), (0, va_rf v0), (2, .int v2)]) dJ5_putChar_34 hl rfl rfl (by decide) hw (fun _ => by simp [cat_rf, cat_int, cat_long]) (fun x3 hw ls hl => ?_)
  refine lv_iload_n hx hb dJ5_putChar_37 rfl (lv_at hl 2 rfl) ?_
  refine r_gets X hR (v := .int 0) (List.mem_of_getElem? (i := 5) rfl) q605 dJ5_putChar_38 ?_
  refine lv_ishr hx hb dJ5_putChar_41 ?_
  refine lv_i2b hx hb dJ5_putChar_42 rfl ?_
  refine r_bast X hR dJ5_putChar_43 hw (fun H locs h hR hw => ?_)
  refine r_aload_n X dJ5_putChar_44 rfl (lv_at hl 1 rfl) ?_
  refine lv_iload_n hx hb dJ5_putChar_45 rfl (lv_at hl 0 rfl) ?_
  refine lv_iload_n hx hb dJ5_putChar_46 rfl (lv_at hl 2 rfl) ?_
  refine r_gets X hR (v := .int 8) (List.mem_of_getElem? (i := 6) rfl) q607 dJ5_putChar_47 ?_
  refine lv_ishr hx hb dJ5_putChar_50 ?_
  refine lv_i2b hx hb dJ5_putChar_51 rfl ?_
  refine r_bast X hR dJ5_putChar_52 hw (fun H locs h hR hw => ?_)
  exact r_vret X hR rfl dJ5_putChar_53 hw
theorem t_J5_putChar_J18 {p : Program} {l : Launch} {e : Env} {s : State} {m : MethodId} {args : Array Value} {below : List Frame} {meth : Method} {c : Code} {g : GT} {h0 : AH} {K : Unit → AH → Prop} {E : Nat → AH → Prop} {h : AH} {H : Heap} {locs : List Loc} {cells slots : Nat} {ls : Array Slot} (X : Cx g h0 p s m args meth c RJ5 cJ5_putChar 3 none)  (hw : w_J5_putChar_J18 g  K E h) (hR : HS g s h H locs) (hl : lv_has ls 3 []) : W p l e (RM 2 h0) s m args below meth c H locs cells slots (MQT below g (qV K) E args s h0) (F0 m 18 ls []) := by
  have hx := X.hx
  have hb := X.hb
  unfold w_J5_putChar_J18 at hw
  exact hw.elim
theorem c_J5_putChar (l : Launch) (g : GT) (v0 : Option Nat) (v1 : Int32) (v2 : Int32) : CT qV l yJ5_putChar (ws_ yJ5_putChar cJ5_putChar 3 none) 2 g [va_rf v0, .int v1, .int v2] (fun K E h => w_J5_putChar g v0 v1 v2 K E h) := by
  refine CT_of (lv := [(0, va_rf v0), (1, .int v1), (2, .int v2)]) (by decide +kernel) (by simp [lg_sl, cat_rf, cat_int, cat_long]) (by simp [lv_args, cat_rf, cat_int, cat_long]) (fun h0 K E p e s m args below meth c H locs cells slots ls X hxt hmn hw hR hl => ?_)
  have hx := X.hx
  have hb := X.hb
  unfold w_J5_putChar at hw
  refine r_gets X hR (v := .int 1) (List.mem_of_getElem? (i := 4) rfl) q600 dJ5_putChar_0 ?_
  refine lv_if_ne (tgt := 28) hx hb dJ5_putChar_3 (by decide) (fun c1 => ?_) (fun c1 => ?_)
  · have hw := hw.1 c1
    exact t_J5_putChar_J28 X  hw hR (lv_sub hl [0, 1, 2] rfl)
  · have hw := hw.2 c1
    refine lv_iload_n hx hb dJ5_putChar_6 rfl (lv_at hl 1 rfl) ?_
    refine lv_if_lt (tgt := 18) hx hb dJ5_putChar_7 (by decide) (fun c4 => ?_) (fun c4 => ?_)
    · have hw := hw.1 c4
      exact t_J5_putChar_J18 X  hw hR (lv_sub hl [] rfl)
    · have hw := hw.2 c4
      refine lv_iload_n hx hb dJ5_putChar_10 rfl (lv_at hl 1 rfl) ?_
      refine r_aload_n X dJ5_putChar_11 rfl (lv_at hl 0 rfl) ?_
      refine r_callI X hR (c_S X hR hl.1 (c_J5_length l g v0) (lw_S q602 q603 q129 q604) mh_J5_length rfl (by decide) (by decide) rfl (cat4 (Nat.le_of_ble_eq_true rfl)) dJ5_putChar_12 hw) (fun x5 h H locs cells slots hR hw => ?_)
      refine lv_icmp_lt (tgt := 28) hx hb dJ5_putChar_15 (by decide) (fun c6 => ?_) (fun c6 => ?_)
      · have hw := hw.1 c6
        exact t_J5_putChar_J28 X  hw hR (lv_sub hl [0, 1, 2] rfl)
      · have hw := hw.2 c6
        exact t_J5_putChar_J18 X  hw hR (lv_sub hl [] rfl)
theorem t_J5_toBytes_L8 {p : Program} {l : Launch} {e : Env} {s : State} {m : MethodId} {args : Array Value} {below : List Frame} {meth : Method} {c : Code} {g : GT} {h0 : AH} {v0 : Option Nat} {v2 : Int32} {v3 : Option Nat} {K : Option Nat → AH → Prop} {E : Nat → AH → Prop} (X : Cx g h0 p s m args meth c RJ5 cJ5_toBytes 5 (Option.some (Jvm.ClassFile.FieldType.array Jvm.ClassFile.FieldType.byte)))  : ∀ (n : Nat) {v1 : Int32} {v4 : Int32} {h : AH} {H : Heap} {locs : List Loc} {cells slots : Nat} {ls : Array Slot}, LpN2 (w_J5_toBytes_L8 g v0 v2 v3 K E) n v1 v4 h → HS g s h H locs → lv_has ls 5 [(0, va_rf v0), (1, .int v1), (2, .int v2), (3, va_rf v3), (4, .int v4)] → W p l e (RM 3 h0) s m args below meth c H locs cells slots (MQT below g (qR K) E args s h0) (F0 m 8 ls []) := by
  have hx := X.hx
  have hb := X.hb
  intro n
  induction n with
  | zero =>
    intro v1 v4 h H locs cells slots ls hw
    exact hw.elim
  | succ n k8 =>
    intro v1 v4 h H locs cells slots ls hw hR hl
    have hw : w_J5_toBytes_L8 g v0 v2 v3 K E (LpN2 (w_J5_toBytes_L8 g v0 v2 v3 K E) n) v1 v4 h := hw
    unfold w_J5_toBytes_L8 at hw
    refine lv_iload hx hb dJ5_toBytes_8 (lv_at hl 4 rfl) ?_
    refine lv_iload_n hx hb dJ5_toBytes_10 rfl (lv_at hl 2 rfl) ?_
    refine lv_icmp_ge (tgt := 32) hx hb dJ5_toBytes_11 (by decide) (fun c2 => ?_) (fun c2 => ?_)
    · have hw := hw.1 c2
      refine r_aload_n X dJ5_toBytes_32 rfl (lv_at hl 3 rfl) ?_
      exact r_aret X (Or.inr ⟨_, rfl⟩) hR dJ5_toBytes_33 hw
    · have hw := hw.2 c2
      refine r_aload_n X dJ5_toBytes_14 rfl (lv_at hl 3 rfl) ?_
      refine lv_iload hx hb dJ5_toBytes_15 (lv_at hl 4 rfl) ?_
      refine r_aload_n X dJ5_toBytes_17 rfl (lv_at hl 0 rfl) ?_
      refine lv_iload_n hx hb dJ5_toBytes_18 rfl (lv_at hl 1 rfl) ?_
      refine r_cald X hR dJ5_toBytes_19 hw (fun x3 hw => ?_)
      refine r_callV X hR (c_S X hR hl.1 (c_J5_putChar l g v3 v4 x3) (lw_S q597 q598 q129 q599) mh_J5_putChar rfl (by decide) (by decide) rfl (cat4 (Nat.le_of_ble_eq_true rfl)) dJ5_toBytes_20 hw) (fun _ h H locs cells slots hR hw => ?_)
      refine r_iinc X (k := 1) (v := (v1 + 1)) (lv' := fun x4 => [(1, .int x4), (0, va_rf v0), (2, .int v2), (3, va_rf v3), (4, .int v4)]) dJ5_toBytes_23 hl rfl rfl (by decide) hw (fun _ => by simp [cat_rf, cat_int, cat_long]) (fun x4 hw ls hl => ?_)
      refine r_iinc X (k := 4) (v := (v4 + 1)) (lv' := fun x5 => [(4, .int x5), (1, .int x4), (0, va_rf v0), (2, .int v2), (3, va_rf v3)]) dJ5_toBytes_26 hl rfl rfl (by decide) hw (fun _ => by simp [cat_rf, cat_int, cat_long]) (fun x5 hw ls hl => ?_)
      refine lv_goto (tgt := 8) hx hb dJ5_toBytes_29 (by decide) ?_
      exact k8 hw hR (lv_sub hl [2, 1, 3, 4, 0] rfl)
theorem c_J5_toBytes (l : Launch) (g : GT) (v0 : Option Nat) (v1 : Int32) (v2 : Int32) : CT qR l yJ5_toBytes (ws_ yJ5_toBytes cJ5_toBytes 5 (Option.some (Jvm.ClassFile.FieldType.array Jvm.ClassFile.FieldType.byte))) 3 g [va_rf v0, .int v1, .int v2] (fun K E h => w_J5_toBytes g v0 v1 v2 K E h) := by
  refine CT_of (lv := [(0, va_rf v0), (1, .int v1), (2, .int v2)]) (by decide +kernel) (by simp [lg_sl, cat_rf, cat_int, cat_long]) (by simp [lv_args, cat_rf, cat_int, cat_long]) (fun h0 K E p e s m args below meth c H locs cells slots ls X hxt hmn hw hR hl => ?_)
  have hx := X.hx
  have hb := X.hb
  unfold w_J5_toBytes at hw
  refine lv_iload_n hx hb dJ5_toBytes_0 rfl (lv_at hl 2 rfl) ?_
  refine r_callR X hR (c_S X hR hl.1 (c_J5_newBytesFor l g v2) (lw_S q590 q591 q129 q592) mh_J5_newBytesFor rfl (by decide) (by decide) rfl (cat4 (Nat.le_of_ble_eq_true rfl)) dJ5_toBytes_1 hw) (fun x1 h H locs cells slots hR hw => ?_)
  refine r_astore_n (i := 3) (lv' := [(3, va_rf x1), (0, va_rf v0), (1, .int v1), (2, .int v2)]) X dJ5_toBytes_4 rfl hl (by decide) rfl (fun ls hl => ?_)
  refine lv_iconst (v := 0) hx hb dJ5_toBytes_5 (by decide) ?_
  refine lv_istore (i := 4) (lv' := [(4, .int 0), (3, va_rf x1), (0, va_rf v0), (1, .int v1), (2, .int v2)]) hx hb dJ5_toBytes_6 hl (by decide) (by simp [cat_rf, cat_int, cat_long]) (fun ls hl => ?_)
  obtain ⟨n, hw⟩ := hw
  exact t_J5_toBytes_L8 X  n hw hR (lv_sub hl [2, 3, 4, 1, 0] rfl)
theorem t_J5_getChar_J28 {p : Program} {l : Launch} {e : Env} {s : State} {m : MethodId} {args : Array Value} {below : List Frame} {meth : Method} {c : Code} {g : GT} {h0 : AH} {v0 : Option Nat} {v1 : Int32} {K : Int32 → AH → Prop} {E : Nat → AH → Prop} {h : AH} {H : Heap} {locs : List Loc} {cells slots : Nat} {ls : Array Slot} (X : Cx g h0 p s m args meth c RJ5 cJ5_getChar 2 (Option.some Jvm.ClassFile.FieldType.char))  (hw : w_J5_getChar_J28 g v0 v1 K E h) (hR : HS g s h H locs) (hl : lv_has ls 2 [(0, va_rf v0), (1, .int v1)]) : W p l e (RM 2 h0) s m args below meth c H locs cells slots (MQT below g (qI K) E args s h0) (F0 m 28 ls []) := by
  have hx := X.hx
  have hb := X.hb
  unfold w_J5_getChar_J28 at hw
  refine lv_iload_n hx hb dJ5_getChar_28 rfl (lv_at hl 1 rfl) ?_
  refine lv_iconst (v := 1) hx hb dJ5_getChar_29 (by decide) ?_
  refine lv_ishl hx hb dJ5_getChar_30 ?_
  refine r_nmI hw (fun x2 hw => ?_)
  refine lv_istore_n (i := 1) (lv' := [(1, .int x2), (0, va_rf v0)]) hx hb dJ5_getChar_31 rfl hl (by decide) (by simp [cat_rf, cat_int, cat_long]) (fun ls hl => ?_)
  refine r_aload_n X dJ5_getChar_32 rfl (lv_at hl 1 rfl) ?_
  refine lv_iload_n hx hb dJ5_getChar_33 rfl (lv_at hl 0 rfl) ?_
  refine r_iinc X (k := 0) (v := (x2 + 1)) (lv' := fun x3 => [(1, .int x3), (0, va_rf v0)]) dJ5_getChar_34 hl rfl rfl (by decide) hw (fun _ => by simp [cat_rf, cat_int, cat_long]) (fun x3 hw ls hl => ?_)
  refine r_bald X hR dJ5_getChar_37 hw (fun x4 hw => ?_)
  refine lv_sipush (v := 255) hx hb dJ5_getChar_38 (by decide) ?_
  refine lv_iand hx hb dJ5_getChar_41 ?_
  refine r_gets X hR (v := .int 0) (List.mem_of_getElem? (i := 5) rfl) q605 dJ5_getChar_42 ?_
  refine lv_ishl hx hb dJ5_getChar_45 ?_
  refine r_aload_n X dJ5_getChar_46 rfl (lv_at hl 1 rfl) ?_
  refine lv_iload_n hx hb dJ5_getChar_47 rfl (lv_at hl 0 rfl) ?_
  refine r_bald X hR dJ5_getChar_48 hw (fun x5 hw => ?_)
  refine lv_sipush (v := 255) hx hb dJ5_getChar_49 (by decide) ?_
  refine lv_iand hx hb dJ5_getChar_52 ?_
  refine r_gets X hR (v := .int 8) (List.mem_of_getElem? (i := 6) rfl) q607 dJ5_getChar_53 ?_
  refine lv_ishl hx hb dJ5_getChar_56 ?_
  refine lv_ior hx hb dJ5_getChar_57 ?_
  refine lv_i2c hx hb dJ5_getChar_58 rfl ?_
  exact r_zret X hR dJ5_getChar_59 hw
theorem t_J5_getChar_J18 {p : Program} {l : Launch} {e : Env} {s : State} {m : MethodId} {args : Array Value} {below : List Frame} {meth : Method} {c : Code} {g : GT} {h0 : AH} {K : Int32 → AH → Prop} {E : Nat → AH → Prop} {h : AH} {H : Heap} {locs : List Loc} {cells slots : Nat} {ls : Array Slot} (X : Cx g h0 p s m args meth c RJ5 cJ5_getChar 2 (Option.some Jvm.ClassFile.FieldType.char))  (hw : w_J5_getChar_J18 g  K E h) (hR : HS g s h H locs) (hl : lv_has ls 2 []) : W p l e (RM 2 h0) s m args below meth c H locs cells slots (MQT below g (qI K) E args s h0) (F0 m 18 ls []) := by
  have hx := X.hx
  have hb := X.hb
  unfold w_J5_getChar_J18 at hw
  exact hw.elim
theorem c_J5_getChar (l : Launch) (g : GT) (v0 : Option Nat) (v1 : Int32) : CT qI l yJ5_getChar (ws_ yJ5_getChar cJ5_getChar 2 (Option.some Jvm.ClassFile.FieldType.char)) 2 g [va_rf v0, .int v1] (fun K E h => w_J5_getChar g v0 v1 K E h) := by
  refine CT_of (lv := [(0, va_rf v0), (1, .int v1)]) (by decide +kernel) (by simp [lg_sl, cat_rf, cat_int, cat_long]) (by simp [lv_args, cat_rf, cat_int, cat_long]) (fun h0 K E p e s m args below meth c H locs cells slots ls X hxt hmn hw hR hl => ?_)
  have hx := X.hx
  have hb := X.hb
  unfold w_J5_getChar at hw
  refine r_gets X hR (v := .int 1) (List.mem_of_getElem? (i := 4) rfl) q600 dJ5_getChar_0 ?_
  refine lv_if_ne (tgt := 28) hx hb dJ5_getChar_3 (by decide) (fun c1 => ?_) (fun c1 => ?_)
  · have hw := hw.1 c1
    exact t_J5_getChar_J28 X  hw hR (lv_sub hl [0, 1] rfl)
  · have hw := hw.2 c1
    refine lv_iload_n hx hb dJ5_getChar_6 rfl (lv_at hl 1 rfl) ?_
    refine lv_if_lt (tgt := 18) hx hb dJ5_getChar_7 (by decide) (fun c6 => ?_) (fun c6 => ?_)
    · have hw := hw.1 c6
      exact t_J5_getChar_J18 X  hw hR (lv_sub hl [] rfl)
    · have hw := hw.2 c6
      refine lv_iload_n hx hb dJ5_getChar_10 rfl (lv_at hl 1 rfl) ?_
      refine r_aload_n X dJ5_getChar_11 rfl (lv_at hl 0 rfl) ?_
      refine r_callI X hR (c_S X hR hl.1 (c_J5_length l g v0) (lw_S q602 q603 q129 q604) mh_J5_length rfl (by decide) (by decide) rfl (cat4 (Nat.le_of_ble_eq_true rfl)) dJ5_getChar_12 hw) (fun x7 h H locs cells slots hR hw => ?_)
      refine lv_icmp_lt (tgt := 28) hx hb dJ5_getChar_15 (by decide) (fun c8 => ?_) (fun c8 => ?_)
      · have hw := hw.1 c8
        exact t_J5_getChar_J28 X  hw hR (lv_sub hl [0, 1] rfl)
      · have hw := hw.2 c8
        exact t_J5_getChar_J18 X  hw hR (lv_sub hl [] rfl)
theorem c_J5_checkBoundsOffCount (l : Launch) (g : GT) (v0 : Int32) (v1 : Int32) (v2 : Option Nat) : CT qV l yJ5_checkBoundsOffCount (ws_ yJ5_checkBoundsOffCount cJ5_checkBoundsOffCount 3 none) 3 g [.int v0, .int v1, va_rf v2] (fun K E h => w_J5_checkBoundsOffCount g v0 v1 v2 K E h) := by
  refine CT_of (lv := [(0, .int v0), (1, .int v1), (2, va_rf v2)]) (by decide +kernel) (by simp [lg_sl, cat_rf, cat_int, cat_long]) (by simp [lv_args, cat_rf, cat_int, cat_long]) (fun h0 K E p e s m args below meth c H locs cells slots ls X hxt hmn hw hR hl => ?_)
  have hx := X.hx
  have hb := X.hb
  unfold w_J5_checkBoundsOffCount at hw
  refine lv_iload_n hx hb dJ5_checkBoundsOffCount_0 rfl (lv_at hl 0 rfl) ?_
  refine lv_iload_n hx hb dJ5_checkBoundsOffCount_1 rfl (lv_at hl 1 rfl) ?_
  refine r_aload_n X dJ5_checkBoundsOffCount_2 rfl (lv_at hl 2 rfl) ?_
  refine r_callI X hR (c_S X hR hl.1 (c_J5_length l g v2) (lw_S q602 q603 q129 q604) mh_J5_length rfl (by decide) (by decide) rfl (cat4 (Nat.le_of_ble_eq_true rfl)) dJ5_checkBoundsOffCount_3 hw) (fun x1 h H locs cells slots hR hw => ?_)
  refine r_callI X hR (c_S X hR hl.1 (c_J3_checkBoundsOffCount l g v0 v1 x1) (lw_S q618 q567 q127 q568) mh_J3_checkBoundsOffCount rfl (by decide) (by decide) rfl (cat4 (Nat.le_of_ble_eq_true rfl)) dJ5_checkBoundsOffCount_6 hw) (fun x2 h H locs cells slots hR hw => ?_)
  refine lv_pop hx hb dJ5_checkBoundsOffCount_9 rfl ?_
  exact r_vret X hR rfl dJ5_checkBoundsOffCount_10 hw
theorem t_J5_compress_3_L10 {p : Program} {l : Launch} {e : Env} {s : State} {m : MethodId} {args : Array Value} {below : List Frame} {meth : Method} {c : Code} {g : GT} {h0 : AH} {v0 : Option Nat} {v2 : Option Nat} {v4 : Int32} {K : Int32 → AH → Prop} {E : Nat → AH → Prop} (X : Cx g h0 p s m args meth c RJ5 cJ5_compress_3 7 (Option.some Jvm.ClassFile.FieldType.int))  : ∀ (n : Nat) {v1 : Int32} {v3 : Int32} {v5 : Int32} {h : AH} {H : Heap} {locs : List Loc} {cells slots : Nat} {ls : Array Slot}, LpN3 (w_J5_compress_3_L10 g v0 v2 v4 K E) n v1 v3 v5 h → HS g s h H locs → lv_has ls 7 [(0, va_rf v0), (1, .int v1), (2, va_rf v2), (3, .int v3), (4, .int v4), (5, .int v5)] → W p l e (RM 4 h0) s m args below meth c H locs cells slots (MQT below g (qI K) E args s h0) (F0 m 10 ls []) := by
  have hx := X.hx
  have hb := X.hb
  intro n
  induction n with
  | zero =>
    intro v1 v3 v5 h H locs cells slots ls hw
    exact hw.elim
  | succ n k10 =>
    intro v1 v3 v5 h H locs cells slots ls hw hR hl
    have hw : w_J5_compress_3_L10 g v0 v2 v4 K E (LpN3 (w_J5_compress_3_L10 g v0 v2 v4 K E) n) v1 v3 v5 h := hw
    unfold w_J5_compress_3_L10 at hw
    refine lv_iload hx hb dJ5_compress_3_10 (lv_at hl 5 rfl) ?_
    refine lv_iload hx hb dJ5_compress_3_12 (lv_at hl 4 rfl) ?_
    refine lv_icmp_ge (tgt := 53) hx hb dJ5_compress_3_14 (by decide) (fun c1 => ?_) (fun c1 => ?_)
    · have hw := hw.1 c1
      refine lv_iload hx hb dJ5_compress_3_53 (lv_at hl 4 rfl) ?_
      exact r_iret X hR dJ5_compress_3_55 hw
    · have hw := hw.2 c1
      refine r_aload_n X dJ5_compress_3_17 rfl (lv_at hl 0 rfl) ?_
      refine lv_iload_n hx hb dJ5_compress_3_18 rfl (lv_at hl 1 rfl) ?_
      refine r_callI X hR (c_S X hR hl.1 (c_J5_getChar l g v0 v1) (lw_S q609 q610 q129 q611) mh_J5_getChar rfl (by decide) (by decide) rfl (cat4 (Nat.le_of_ble_eq_true rfl)) dJ5_compress_3_19 hw) (fun x2 h H locs cells slots hR hw => ?_)
      refine lv_istore (i := 6) (lv' := [(6, .int x2), (0, va_rf v0), (1, .int v1), (2, va_rf v2), (3, .int v3), (4, .int v4), (5, .int v5)]) hx hb dJ5_compress_3_22 hl (by decide) rfl (fun ls hl => ?_)
      refine lv_iload hx hb dJ5_compress_3_24 (lv_at hl 0 rfl) ?_
      refine lv_sipush (v := 255) hx hb dJ5_compress_3_26 (by decide) ?_
      refine lv_icmp_le (tgt := 35) hx hb dJ5_compress_3_29 (by decide) (fun c3 => ?_) (fun c3 => ?_)
      · have hw := hw.1 c3
        refine r_aload_n X dJ5_compress_3_35 rfl (lv_at hl 3 rfl) ?_
        refine lv_iload_n hx hb dJ5_compress_3_36 rfl (lv_at hl 4 rfl) ?_
        refine lv_iload hx hb dJ5_compress_3_37 (lv_at hl 0 rfl) ?_
        refine lv_i2b hx hb dJ5_compress_3_39 rfl ?_
        refine r_bast X hR dJ5_compress_3_40 hw (fun H locs h hR hw => ?_)
        refine r_iinc X (k := 2) (v := (v1 + 1)) (lv' := fun x4 => [(1, .int x4), (6, .int x2), (0, va_rf v0), (2, va_rf v2), (3, .int v3), (4, .int v4), (5, .int v5)]) dJ5_compress_3_41 hl rfl rfl (by decide) hw (fun _ => by simp [cat_rf, cat_int, cat_long]) (fun x4 hw ls hl => ?_)
        refine r_iinc X (k := 4) (v := (v3 + 1)) (lv' := fun x5 => [(3, .int x5), (1, .int x4), (6, .int x2), (0, va_rf v0), (2, va_rf v2), (4, .int v4), (5, .int v5)]) dJ5_compress_3_44 hl rfl rfl (by decide) hw (fun _ => by simp [cat_rf, cat_int, cat_long]) (fun x5 hw ls hl => ?_)
        refine r_iinc X (k := 6) (v := (v5 + 1)) (lv' := fun x6 => [(5, .int x6), (3, .int x5), (1, .int x4), (6, .int x2), (0, va_rf v0), (2, va_rf v2), (4, .int v4)]) dJ5_compress_3_47 hl rfl rfl (by decide) hw (fun _ => rfl) (fun x6 hw ls hl => ?_)
        refine lv_goto (tgt := 10) hx hb dJ5_compress_3_50 (by decide) ?_
        exact k10 hw hR (lv_sub hl [4, 2, 5, 1, 6, 0] rfl)
      · have hw := hw.2 c3
        refine lv_iload hx hb dJ5_compress_3_32 (lv_at hl 6 rfl) ?_
        exact r_iret X hR dJ5_compress_3_34 hw
theorem c_J5_compress_3 (l : Launch) (g : GT) (v0 : Option Nat) (v1 : Int32) (v2 : Option Nat) (v3 : Int32) (v4 : Int32) : CT qI l yJ5_compress_3 (ws_ yJ5_compress_3 cJ5_compress_3 7 (Option.some Jvm.ClassFile.FieldType.int)) 4 g [va_rf v0, .int v1, va_rf v2, .int v3, .int v4] (fun K E h => w_J5_compress_3 g v0 v1 v2 v3 v4 K E h) := by
  refine CT_of (lv := [(0, va_rf v0), (1, .int v1), (2, va_rf v2), (3, .int v3), (4, .int v4)]) (by decide +kernel) (by simp [lg_sl, cat_rf, cat_int, cat_long]) (by simp [lv_args, cat_rf, cat_int, cat_long]) (fun h0 K E p e s m args below meth c H locs cells slots ls X hxt hmn hw hR hl => ?_)
  have hx := X.hx
  have hb := X.hb
  unfold w_J5_compress_3 at hw
  refine lv_iload_n hx hb dJ5_compress_3_0 rfl (lv_at hl 1 rfl) ?_
  refine lv_iload hx hb dJ5_compress_3_1 (lv_at hl 4 rfl) ?_
  refine r_aload_n X dJ5_compress_3_3 rfl (lv_at hl 0 rfl) ?_
  refine r_callV X hR (c_S X hR hl.1 (c_J5_checkBoundsOffCount l g v1 v4 v0) (lw_S q615 q616 q129 q617) mh_J5_checkBoundsOffCount rfl (by decide) (by decide) rfl (cat4 (Nat.le_of_ble_eq_true rfl)) dJ5_compress_3_4 hw) (fun _ h H locs cells slots hR hw => ?_)
  refine lv_iconst (v := 0) hx hb dJ5_compress_3_7 (by decide) ?_
  refine lv_istore (i := 5) (lv' := [(5, .int 0), (0, va_rf v0), (1, .int v1), (2, va_rf v2), (3, .int v3), (4, .int v4)]) hx hb dJ5_compress_3_8 hl (by decide) rfl (fun ls hl => ?_)
  obtain ⟨n, hw⟩ := hw
  exact t_J5_compress_3_L10 X  n hw hR (lv_sub hl [1, 2, 3, 4, 5, 0] rfl)
theorem c_J5_compress (l : Launch) (g : GT) (v0 : Option Nat) (v1 : Int32) (v2 : Int32) : CT qR l yJ5_compress (ws_ yJ5_compress cJ5_compress 6 (Option.some (Jvm.ClassFile.FieldType.array Jvm.ClassFile.FieldType.byte))) 5 g [va_rf v0, .int v1, .int v2] (fun K E h => w_J5_compress g v0 v1 v2 K E h) := by
  refine CT_of (lv := [(0, va_rf v0), (1, .int v1), (2, .int v2)]) (by decide +kernel) (by simp [lg_sl, cat_rf, cat_int, cat_long]) (by simp [lv_args, cat_rf, cat_int, cat_long]) (fun h0 K E p e s m args below meth c H locs cells slots ls X hxt hmn hw hR hl => ?_)
  have hx := X.hx
  have hb := X.hb
  unfold w_J5_compress at hw
  refine lv_iload_n hx hb dJ5_compress_0 rfl (lv_at hl 2 rfl) ?_
  refine r_newa X hR (atype := .byte) (t := 1) q239 (by decide) rfl dJ5_compress_1 hw (fun H cells slots x1 h hR hw => ?_)
  refine r_astore_n (i := 3) (lv' := [(3, va_rf x1), (0, va_rf v0), (1, .int v1), (2, .int v2)]) X dJ5_compress_3 rfl hl (by decide) rfl (fun ls hl => ?_)
  refine r_aload_n X dJ5_compress_4 rfl (lv_at hl 1 rfl) ?_
  refine lv_iload_n hx hb dJ5_compress_5 rfl (lv_at hl 2 rfl) ?_
  refine r_aload_n X dJ5_compress_6 rfl (lv_at hl 0 rfl) ?_
  refine lv_iconst (v := 0) hx hb dJ5_compress_7 (by decide) ?_
  refine lv_iload_n hx hb dJ5_compress_8 rfl (lv_at hl 3 rfl) ?_
  refine r_callI X hR (c_S X hR hl.1 (c_J5_compress_2 l g v0 v1 x1 0 v2) (lw_S q584 q585 q129 q586) mh_J5_compress_2 rfl (by decide) (by decide) rfl (cat4 (Nat.le_of_ble_eq_true rfl)) dJ5_compress_9 hw) (fun x2 h H locs cells slots hR hw => ?_)
  refine lv_istore (i := 4) (lv' := [(4, .int x2), (3, va_rf x1), (0, va_rf v0), (1, .int v1), (2, .int v2)]) hx hb dJ5_compress_12 hl (by decide) (by simp [cat_rf, cat_int, cat_long]) (fun ls hl => ?_)
  refine lv_iload hx hb dJ5_compress_14 (lv_at hl 0 rfl) ?_
  refine lv_iload_n hx hb dJ5_compress_16 rfl (lv_at hl 4 rfl) ?_
  refine lv_icmp_eq (tgt := 57) hx hb dJ5_compress_17 (by decide) (fun c3 => ?_) (fun c3 => ?_)
  · have hw := hw.1 c3
    refine r_aload_n X dJ5_compress_57 rfl (lv_at hl 1 rfl) ?_
    exact r_aret X (Or.inr ⟨_, rfl⟩) hR dJ5_compress_58 hw
  · have hw := hw.2 c3
    refine r_aload_n X dJ5_compress_20 rfl (lv_at hl 2 rfl) ?_
    refine lv_iload_n hx hb dJ5_compress_21 rfl (lv_at hl 3 rfl) ?_
    refine lv_iload_n hx hb dJ5_compress_22 rfl (lv_at hl 4 rfl) ?_
    refine r_callR X hR (c_S X hR hl.1 (c_J5_toBytes l g v0 v1 v2) (lw_S q587 q588 q129 q589) mh_J5_toBytes rfl (by decide) (by decide) rfl (cat4 (Nat.le_of_ble_eq_true rfl)) dJ5_compress_23 hw) (fun x4 h H locs cells slots hR hw => ?_)
    refine r_astore (i := 5) (lv' := [(5, va_rf x4), (4, .int x2), (3, va_rf x1), (0, va_rf v0), (1, .int v1), (2, .int v2)]) X dJ5_compress_26 hl (by decide) rfl (fun ls hl => ?_)
    refine r_aload X dJ5_compress_28 (lv_at hl 0 rfl) ?_
    refine lv_iload hx hb dJ5_compress_30 (lv_at hl 1 rfl) ?_
    refine r_callI X hR (c_S X hR hl.1 (c_J5_getChar l g x4 x2) (lw_S q609 q610 q129 q611) mh_J5_getChar rfl (by decide) (by decide) rfl (cat4 (Nat.le_of_ble_eq_true rfl)) dJ5_compress_32 hw) (fun x5 h H locs cells slots hR hw => ?_)
    refine lv_sipush (v := 255) hx hb dJ5_compress_35 (by decide) ?_
    refine lv_icmp_gt (tgt := 54) hx hb dJ5_compress_38 (by decide) (fun c6 => ?_) (fun c6 => ?_)
    · have hw := hw.1 c6
      refine r_aload X dJ5_compress_54 (lv_at hl 0 rfl) ?_
      exact r_aret X (Or.inr ⟨_, rfl⟩) hR dJ5_compress_56 hw
    · have hw := hw.2 c6
      refine r_aload X dJ5_compress_41 (lv_at hl 0 rfl) ?_
      refine lv_iconst (v := 0) hx hb dJ5_compress_43 (by decide) ?_
      refine r_aload_n X dJ5_compress_44 rfl (lv_at hl 2 rfl) ?_
      refine lv_iconst (v := 0) hx hb dJ5_compress_45 (by decide) ?_
      refine lv_iload_n hx hb dJ5_compress_46 rfl (lv_at hl 5 rfl) ?_
      refine r_callI X hR (c_S X hR hl.1 (c_J5_compress_3 l g x4 0 x1 0 v2) (lw_S q612 q613 q129 q614) mh_J5_compress_3 rfl (by decide) (by decide) rfl (cat4 (Nat.le_of_ble_eq_true rfl)) dJ5_compress_47 hw) (fun x7 h H locs cells slots hR hw => ?_)
      refine lv_iload_n hx hb dJ5_compress_50 rfl (lv_at hl 5 rfl) ?_
      refine lv_icmp_eq (tgt := 57) hx hb dJ5_compress_51 (by decide) (fun c8 => ?_) (fun c8 => ?_)
      · have hw := hw.1 c8
        refine r_aload_n X dJ5_compress_57 rfl (lv_at hl 2 rfl) ?_
        exact r_aret X (Or.inr ⟨_, rfl⟩) hR dJ5_compress_58 hw
      · have hw := hw.2 c8
        refine r_aload X dJ5_compress_54 (lv_at hl 0 rfl) ?_
        exact r_aret X (Or.inr ⟨_, rfl⟩) hR dJ5_compress_56 hw
theorem c_J5_coderFromArrayLen (l : Launch) (g : GT) (v0 : Option Nat) (v1 : Int32) : CT qI l yJ5_coderFromArrayLen (ws_ yJ5_coderFromArrayLen cJ5_coderFromArrayLen 2 (Option.some Jvm.ClassFile.FieldType.byte)) 1 g [va_rf v0, .int v1] (fun K E h => w_J5_coderFromArrayLen g v0 v1 K E h) := by
  refine CT_of (lv := [(0, va_rf v0), (1, .int v1)]) (by decide +kernel) (by simp [lg_sl, cat_rf, cat_int, cat_long]) (by simp [lv_args, cat_rf, cat_int, cat_long]) (fun h0 K E p e s m args below meth c H locs cells slots ls X hxt hmn hw hR hl => ?_)
  have hx := X.hx
  have hb := X.hb
  unfold w_J5_coderFromArrayLen at hw
  refine lv_iload_n hx hb dJ5_coderFromArrayLen_0 rfl (lv_at hl 1 rfl) ?_
  refine r_aload_n X dJ5_coderFromArrayLen_1 rfl (lv_at hl 0 rfl) ?_
  refine r_alen X hR dJ5_coderFromArrayLen_2 hw (fun x1 hw => ?_)
  refine lv_isub hx hb dJ5_coderFromArrayLen_3 ?_
  refine lv_bipush (v := 31) hx hb dJ5_coderFromArrayLen_4 (by decide) ?_
  refine lv_iushr hx hb dJ5_coderFromArrayLen_6 rfl ?_
  refine lv_i2b hx hb dJ5_coderFromArrayLen_7 rfl ?_
  exact r_zret X hR dJ5_coderFromArrayLen_8 hw
theorem c_J3_init_2 (l : Launch) (g : GT) (v0 : Option Nat) (v1 : Option Nat) (v2 : Int32) (v3 : Int32) (v4 : Option Nat) : CT qV l yJ3_init_2 (ws_ yJ3_init_2 cJ3_init_2 6 none) 6 g [va_rf v0, va_rf v1, .int v2, .int v3, va_rf v4] (fun K E h => w_J3_init_2 g v0 v1 v2 v3 v4 K E h) := by
  refine CT_of (lv := [(0, va_rf v0), (1, va_rf v1), (2, .int v2), (3, .int v3), (4, va_rf v4)]) (by decide +kernel) (by simp [lg_sl, cat_rf, cat_int, cat_long]) (by simp [lv_args, cat_rf, cat_int, cat_long]) (fun h0 K E p e s m args below meth c H locs cells slots ls X hxt hmn hw hR hl => ?_)
  have hx := X.hx
  have hb := X.hb
  unfold w_J3_init_2 at hw
  refine r_aload_n X dJ3_init_2_0 rfl (lv_at hl 0 rfl) ?_
  obtain ⟨z1, hw⟩ := hw
  refine r_objInit X hl.1 z1 q577 q158 q159 (by decide) (cat4 (Nat.le_of_ble_eq_true rfl)) dJ3_init_2_1 ?_
  refine lv_iload_n hx hb dJ3_init_2_4 rfl (lv_at hl 3 rfl) ?_
  refine lv_if_ne (tgt := 27) hx hb dJ3_init_2_5 (by decide) (fun c2 => ?_) (fun c2 => ?_)
  · have hw := hw.1 c2
    refine r_gets X hR (v := .int 1) (List.mem_of_getElem? (i := 0) rfl) q579 dJ3_init_2_27 ?_
    refine lv_if_eq (tgt := 58) hx hb dJ3_init_2_30 (by decide) (fun c3 => ?_) (fun c3 => ?_)
    · have hw := hw.1 c3
      refine r_aload_n X dJ3_init_2_58 rfl (lv_at hl 0 rfl) ?_
      refine lv_iconst (v := 1) hx hb dJ3_init_2_59 (by decide) ?_
      refine r_put X hR fp_J3_15 (Or.inr hmn) ⟨rfl, rfl⟩ dJ3_init_2_60 hw (fun H locs h hR hw => ?_)
      refine r_aload_n X dJ3_init_2_63 rfl (lv_at hl 0 rfl) ?_
      refine r_aload_n X dJ3_init_2_64 rfl (lv_at hl 1 rfl) ?_
      refine lv_iload_n hx hb dJ3_init_2_65 rfl (lv_at hl 2 rfl) ?_
      refine lv_iload_n hx hb dJ3_init_2_66 rfl (lv_at hl 3 rfl) ?_
      refine r_callR X hR (c_S X hR hl.1 (c_J5_toBytes l g v1 v2 v3) (lw_S q622 q588 q129 q589) mh_J5_toBytes rfl (by decide) (by decide) rfl (cat4 (Nat.le_of_ble_eq_true rfl)) dJ3_init_2_67 hw) (fun x4 h H locs cells slots hR hw => ?_)
      refine r_put X hR fp_J3_9 (Or.inr hmn) (nf_arr _ _) dJ3_init_2_70 hw (fun H locs h hR hw => ?_)
      exact r_vret X hR rfl dJ3_init_2_73 hw
    · have hw := hw.2 c3
      refine r_aload_n X dJ3_init_2_33 rfl (lv_at hl 1 rfl) ?_
      refine lv_iload_n hx hb dJ3_init_2_34 rfl (lv_at hl 2 rfl) ?_
      refine lv_iload_n hx hb dJ3_init_2_35 rfl (lv_at hl 3 rfl) ?_
      refine r_callR X hR (c_S X hR hl.1 (c_J5_compress l g v1 v2 v3) (lw_S q581 q582 q129 q583) mh_J5_compress rfl (by decide) (by decide) rfl (cat4 (Nat.le_of_ble_eq_true rfl)) dJ3_init_2_36 hw) (fun x5 h H locs cells slots hR hw => ?_)
      refine r_astore (i := 5) (lv' := [(5, va_rf x5), (0, va_rf v0), (1, va_rf v1), (2, .int v2), (3, .int v3), (4, va_rf v4)]) X dJ3_init_2_39 hl (by decide) (by simp [cat_rf, cat_int, cat_long]) (fun ls hl => ?_)
      refine r_aload_n X dJ3_init_2_41 rfl (lv_at hl 1 rfl) ?_
      refine r_aload X dJ3_init_2_42 (lv_at hl 0 rfl) ?_
      refine lv_iload_n hx hb dJ3_init_2_44 rfl (lv_at hl 4 rfl) ?_
      refine r_callI X hR (c_S X hR hl.1 (c_J5_coderFromArrayLen l g x5 v3) (lw_S q619 q620 q129 q621) mh_J5_coderFromArrayLen rfl (by decide) (by decide) rfl (cat4 (Nat.le_of_ble_eq_true rfl)) dJ3_init_2_45 hw) (fun x6 h H locs cells slots hR hw => ?_)
      obtain ⟨z7, hw⟩ := hw
      refine r_put X hR fp_J3_15 (Or.inr hmn) z7 dJ3_init_2_48 hw (fun H locs h hR hw => ?_)
      refine r_aload_n X dJ3_init_2_51 rfl (lv_at hl 1 rfl) ?_
      refine r_aload X dJ3_init_2_52 (lv_at hl 0 rfl) ?_
      refine r_put X hR fp_J3_9 (Or.inr hmn) (nf_arr _ _) dJ3_init_2_54 hw (fun H locs h hR hw => ?_)
      exact r_vret X hR rfl dJ3_init_2_57 hw
  · have hw := hw.2 c2
    refine r_aload_n X dJ3_init_2_8 rfl (lv_at hl 0 rfl) ?_
    refine r_ldcS X (tx := "") (List.mem_of_getElem? (i := 45) rfl) dJ3_init_2_9 ?_
    refine r_gR X hR fk_J3_9 dJ3_init_2_11 hw (fun x8 hw => ?_)
    refine r_put X hR fp_J3_9 (Or.inr hmn) (nf_arr _ _) dJ3_init_2_14 hw (fun H locs h hR hw => ?_)
    refine r_aload_n X dJ3_init_2_17 rfl (lv_at hl 0 rfl) ?_
    refine r_ldcS X (tx := "") (List.mem_of_getElem? (i := 45) rfl) dJ3_init_2_18 ?_
    refine r_gI X hR fk_J3_15 dJ3_init_2_20 hw (fun x9 hw => ?_)
    obtain ⟨z10, hw⟩ := hw
    refine r_put X hR fp_J3_15 (Or.inr hmn) z10 dJ3_init_2_23 hw (fun H locs h hR hw => ?_)
    exact r_vret X hR rfl dJ3_init_2_26 hw
theorem c_J3_init (l : Launch) (g : GT) (v0 : Option Nat) (v1 : Option Nat) (v2 : Int32) (v3 : Int32) : CT qV l yJ3_init (ws_ yJ3_init cJ3_init 4 none) 7 g [va_rf v0, va_rf v1, .int v2, .int v3] (fun K E h => w_J3_init g v0 v1 v2 v3 K E h) := by
  refine CT_of (lv := [(0, va_rf v0), (1, va_rf v1), (2, .int v2), (3, .int v3)]) (by decide +kernel) (by simp [lg_sl, cat_rf, cat_int, cat_long]) (by simp [lv_args, cat_rf, cat_int, cat_long]) (fun h0 K E p e s m args below meth c H locs cells slots ls X hxt hmn hw hR hl => ?_)
  have hx := X.hx
  have hb := X.hb
  unfold w_J3_init at hw
  refine r_aload_n X dJ3_init_0 rfl (lv_at hl 0 rfl) ?_
  refine r_aload_n X dJ3_init_1 rfl (lv_at hl 1 rfl) ?_
  refine lv_iload_n hx hb dJ3_init_2 rfl (lv_at hl 2 rfl) ?_
  refine lv_iload_n hx hb dJ3_init_3 rfl (lv_at hl 3 rfl) ?_
  refine r_aload_n X dJ3_init_4 rfl (lv_at hl 1 rfl) ?_
  refine lv_iload_n hx hb dJ3_init_5 rfl (lv_at hl 2 rfl) ?_
  refine lv_iload_n hx hb dJ3_init_6 rfl (lv_at hl 3 rfl) ?_
  refine r_callR X hR (c_S X hR hl.1 (c_J3_rangeCheck l g v1 v2 v3) (lw_S q563 q564 q127 q565) mh_J3_rangeCheck rfl (by decide) (by decide) rfl (cat4 (Nat.le_of_ble_eq_true rfl)) dJ3_init_7 hw) (fun x1 h H locs cells slots hR hw => ?_)
  refine r_callV X hR (c_I X hR hl.1 (c_J3_init_2 l g v0 v1 v2 v3 x1) (lw_meth q576) q127 q574 q575 rfl mh_J3_init_2 rfl (by decide) (by decide) rfl (cat4 (Nat.le_of_ble_eq_true rfl)) dJ3_init_10 hw) (fun _ h H locs cells slots hR hw => ?_)
  exact r_vret X hR rfl dJ3_init_13 hw
theorem c_X2_isDigit (l : Launch) (g : GT) (v0 : Int32) : CT qI l yX2_isDigit (ws_ yX2_isDigit cX2_isDigit 1 (Option.some Jvm.ClassFile.FieldType.boolean)) 2 g [.int v0] (fun K E h => w_X2_isDigit g v0 K E h) := by
  refine CT_of (lv := [(0, .int v0)]) (by decide +kernel) (by simp [lg_sl, cat_rf, cat_int, cat_long]) (by simp [lv_args, cat_rf, cat_int, cat_long]) (fun h0 K E p e s m args below meth c H locs cells slots ls X hxt hmn hw hR hl => ?_)
  have hx := X.hx
  have hb := X.hb
  unfold w_X2_isDigit at hw
  refine lv_iload_n hx hb dX2_isDigit_0 rfl (lv_at hl 0 rfl) ?_
  refine lv_bipush (v := 48) hx hb dX2_isDigit_1 (by decide) ?_
  refine lv_bipush (v := 57) hx hb dX2_isDigit_3 (by decide) ?_
  refine r_callI X hR (c_SN X hR hl.1 (c_X1_in l g v0 48 57) (lw_meth q461) q557 q115 q460 mh_X1_in rfl (by decide) (by decide) rfl (cat4 (Nat.le_of_ble_eq_true rfl)) dX2_isDigit_5 hw) (fun x1 h H locs cells slots hR hw => ?_)
  exact r_zret X hR dX2_isDigit_8 hw
theorem t_X2_next_J296 {p : Program} {l : Launch} {e : Env} {s : State} {m : MethodId} {args : Array Value} {below : List Frame} {meth : Method} {c : Code} {g : GT} {h0 : AH} {s0 : Int32} {s1 : Option Nat} {K : Unit → AH → Prop} {E : Nat → AH → Prop} {h : AH} {H : Heap} {locs : List Loc} {cells slots : Nat} {ls : Array Slot} (X : Cx g h0 p s m args meth c RX2 cX2_next 3 none)  (hw : w_X2_next_J296 g  s0 s1 K E h) (hR : HS g s h H locs) (hl : lv_has ls 3 []) : W p l e (RM 8 h0) s m args below meth c H locs cells slots (MQT below g (qV K) E args s h0) (F0 m 296 ls [.int s0, va_rf s1]) := by
  have hx := X.hx
  have hb := X.hb
  unfold w_X2_next_J296 at hw
  refine r_put X hR fp_X2_47 (Or.inl fn_X2_47) (nf_int _) dX2_next_296 hw (fun H locs h hR hw => ?_)
  exact r_vret X hR rfl dX2_next_299 hw
theorem t_X2_next_J278 {p : Program} {l : Launch} {e : Env} {s : State} {m : MethodId} {args : Array Value} {below : List Frame} {meth : Method} {c : Code} {g : GT} {h0 : AH} {s0 : Int32} {s1 : Option Nat} {K : Unit → AH → Prop} {E : Nat → AH → Prop} {h : AH} {H : Heap} {locs : List Loc} {cells slots : Nat} {ls : Array Slot} (X : Cx g h0 p s m args meth c RX2 cX2_next 3 none)  (hw : w_X2_next_J278 g  s0 s1 K E h) (hR : HS g s h H locs) (hl : lv_has ls 3 []) : W p l e (RM 8 h0) s m args below meth c H locs cells slots (MQT below g (qV K) E args s h0) (F0 m 278 ls [.int s0, va_rf s1]) := by
  have hx := X.hx
  have hb := X.hb
  unfold w_X2_next_J278 at hw
  refine r_put X hR fp_X2_47 (Or.inl fn_X2_47) (nf_int _) dX2_next_278 hw (fun H locs h hR hw => ?_)
  refine lv_goto (tgt := 299) hx hb dX2_next_281 (by decide) ?_
  exact r_vret X hR rfl dX2_next_299 hw
theorem t_X2_next_J249 {p : Program} {l : Launch} {e : Env} {s : State} {m : MethodId} {args : Array Value} {below : List Frame} {meth : Method} {c : Code} {g : GT} {h0 : AH} {v0 : Option Nat} {v1 : Int32} {K : Unit → AH → Prop} {E : Nat → AH → Prop} {L202 : AH → Prop} {h : AH} {H : Heap} {locs : List Loc} {cells slots : Nat} {ls : Array Slot} (X : Cx g h0 p s m args meth c RX2 cX2_next 3 none) (k202 : ∀ {h : AH} {H : Heap} {locs : List Loc} {cells slots : Nat} {ls : Array Slot}, L202 h → HS g s h H locs → lv_has ls 3 [(0, va_rf v0), (1, .int v1)] → W p l e (RM 8 h0) s m args below meth c H locs cells slots (MQT below g (qV K) E args s h0) (F0 m 202 ls [])) (hw : w_X2_next_J249 g v0 v1 K E L202 h) (hR : HS g s h H locs) (hl : lv_has ls 3 [(0, va_rf v0), (1, .int v1)]) : W p l e (RM 8 h0) s m args below meth c H locs cells slots (MQT below g (qV K) E args s h0) (F0 m 249 ls []) := by
  have hx := X.hx
  have hb := X.hb
  unfold w_X2_next_J249 at hw
  refine r_aload_n X dX2_next_249 rfl (lv_at hl 0 rfl) ?_
  refine lv_dup hx hb dX2_next_250 (cat_rf _) ?_
  refine r_gI X hR fk_X2_40 dX2_next_251 hw (fun x19 hw => ?_)
  refine lv_iconst (v := 1) hx hb dX2_next_254 (by decide) ?_
  refine lv_iadd hx hb dX2_next_255 ?_
  refine r_put X hR fp_X2_40 (Or.inl fn_X2_40) (nf_int _) dX2_next_256 hw (fun H locs h hR hw => ?_)
  refine lv_goto (tgt := 202) hx hb dX2_next_259 (by decide) ?_
  exact k202 hw hR (lv_sub hl [0, 1] rfl)
theorem t_X2_next_L202 {p : Program} {l : Launch} {e : Env} {s : State} {m : MethodId} {args : Array Value} {below : List Frame} {meth : Method} {c : Code} {g : GT} {h0 : AH} {v0 : Option Nat} {v1 : Int32} {K : Unit → AH → Prop} {E : Nat → AH → Prop} (X : Cx g h0 p s m args meth c RX2 cX2_next 3 none)  : ∀ (n : Nat) {h : AH} {H : Heap} {locs : List Loc} {cells slots : Nat} {ls : Array Slot}, LpN0 (w_X2_next_L202 g v0 v1 K E) n h → HS g s h H locs → lv_has ls 3 [(0, va_rf v0), (1, .int v1)] → W p l e (RM 8 h0) s m args below meth c H locs cells slots (MQT below g (qV K) E args s h0) (F0 m 202 ls []) := by
  have hx := X.hx
  have hb := X.hb
  intro n
  induction n with
  | zero =>
    intro h H locs cells slots ls hw
    exact hw.elim
  | succ n k202 =>
    intro h H locs cells slots ls hw hR hl
    have hw : w_X2_next_L202 g v0 v1 K E (LpN0 (w_X2_next_L202 g v0 v1 K E) n) h := hw
    unfold w_X2_next_L202 at hw
    refine r_aload_n X dX2_next_202 rfl (lv_at hl 0 rfl) ?_
    refine r_aload_n X dX2_next_203 rfl (lv_at hl 0 rfl) ?_
    refine r_gI X hR fk_X2_40 dX2_next_204 hw (fun x11 hw => ?_)
    refine r_callI X hR (c_V (ci := 2) (q := (RX2, TX2, 10)) X hR hl.1 (c_X2_see l g v0 x11) (lw_V q550 q552 qs5 q116 q553) rfl rfl mh_X2_see rfl (by decide) (by decide) rfl (cat4 (Nat.le_of_ble_eq_true rfl)) dX2_next_207 hw) (fun x12 h H locs cells slots hR hw => ?_)
    refine r_callI X hR (c_S X hR hl.1 (c_X2_isDigit l g x12) (lw_S q637 q638 q116 q639) mh_X2_isDigit rfl (by decide) (by decide) rfl (cat4 (Nat.le_of_ble_eq_true rfl)) dX2_next_210 hw) (fun x13 h H locs cells slots hR hw => ?_)
    refine lv_if_eq (tgt := 262) hx hb dX2_next_213 (by decide) (fun c14 => ?_) (fun c14 => ?_)
    · have hw := hw.1 c14
      refine r_aload_n X dX2_next_262 rfl (lv_at hl 0 rfl) ?_
      refine r_aload_n X dX2_next_263 rfl (lv_at hl 0 rfl) ?_
      refine r_gI X hR fk_X2_40 dX2_next_264 hw (fun x15 hw => ?_)
      refine lv_iload_n hx hb dX2_next_267 rfl (lv_at hl 1 rfl) ?_
      refine lv_isub hx hb dX2_next_268 ?_
      refine lv_iconst (v := 2) hx hb dX2_next_269 (by decide) ?_
      refine lv_icmp_le (tgt := 277) hx hb dX2_next_270 (by decide) (fun c16 => ?_) (fun c16 => ?_)
      · have hw := hw.1 c16
        refine lv_iconst (v := 3) hx hb dX2_next_277 (by decide) ?_
        exact t_X2_next_J278 X  hw hR (lv_sub hl [] rfl)
      · have hw := hw.2 c16
        refine lv_iconst (v := 1) hx hb dX2_next_273 (by decide) ?_
        refine lv_goto (tgt := 278) hx hb dX2_next_274 (by decide) ?_
        exact t_X2_next_J278 X  hw hR (lv_sub hl [] rfl)
    · have hw := hw.2 c14
      refine r_aload_n X dX2_next_216 rfl (lv_at hl 0 rfl) ?_
      refine r_gI X hR fk_X2_40 dX2_next_217 hw (fun x17 hw => ?_)
      refine lv_iload_n hx hb dX2_next_220 rfl (lv_at hl 1 rfl) ?_
      refine lv_isub hx hb dX2_next_221 ?_
      refine lv_iconst (v := 2) hx hb dX2_next_222 (by decide) ?_
      refine lv_icmp_ge (tgt := 249) hx hb dX2_next_223 (by decide) (fun c18 => ?_) (fun c18 => ?_)
      · have hw := hw.1 c18
        exact t_X2_next_J249 X k202 hw hR (lv_sub hl [0, 1] rfl)
      · have hw := hw.2 c18
        refine r_aload_n X dX2_next_226 rfl (lv_at hl 0 rfl) ?_
        refine lv_bipush (v := 10) hx hb dX2_next_227 (by decide) ?_
        refine r_aload_n X dX2_next_229 rfl (lv_at hl 0 rfl) ?_
        refine r_gI X hR fk_X2_68 dX2_next_230 hw (fun x20 hw => ?_)
        refine lv_imul hx hb dX2_next_233 ?_
        refine r_aload_n X dX2_next_234 rfl (lv_at hl 0 rfl) ?_
        refine r_aload_n X dX2_next_235 rfl (lv_at hl 0 rfl) ?_
        refine r_gI X hR fk_X2_40 dX2_next_236 hw (fun x21 hw => ?_)
        refine r_callI X hR (c_V (ci := 2) (q := (RX2, TX2, 10)) X hR hl.1 (c_X2_see l g v0 x21) (lw_V q550 q552 qs5 q116 q553) rfl rfl mh_X2_see rfl (by decide) (by decide) rfl (cat4 (Nat.le_of_ble_eq_true rfl)) dX2_next_239 hw) (fun x22 h H locs cells slots hR hw => ?_)
        refine lv_iadd hx hb dX2_next_242 ?_
        refine lv_bipush (v := 48) hx hb dX2_next_243 (by decide) ?_
        refine lv_isub hx hb dX2_next_245 ?_
        refine r_put X hR fp_X2_68 (Or.inl fn_X2_68) (nf_int _) dX2_next_246 hw (fun H locs h hR hw => ?_)
        exact t_X2_next_J249 X k202 hw hR (lv_sub hl [0, 1] rfl)
theorem t_X2_next_J179 {p : Program} {l : Launch} {e : Env} {s : State} {m : MethodId} {args : Array Value} {below : List Frame} {meth : Method} {c : Code} {g : GT} {h0 : AH} {s0 : Option Nat} {s1 : Option Nat} {K : Unit → AH → Prop} {E : Nat → AH → Prop} {h : AH} {H : Heap} {locs : List Loc} {cells slots : Nat} {ls : Array Slot} (X : Cx g h0 p s m args meth c RX2 cX2_next 3 none)  (hw : w_X2_next_J179 g  s0 s1 K E h) (hR : HS g s h H locs) (hl : lv_has ls 3 []) : W p l e (RM 8 h0) s m args below meth c H locs cells slots (MQT below g (qV K) E args s h0) (F0 m 179 ls [va_rf s0, va_rf s1]) := by
  have hx := X.hx
  have hb := X.hb
  unfold w_X2_next_J179 at hw
  refine r_put X hR fp_X2_61 (Or.inl fn_X2_61) (nf_obj _ _) dX2_next_179 hw (fun H locs h hR hw => ?_)
  refine lv_goto (tgt := 299) hx hb dX2_next_182 (by decide) ?_
  exact r_vret X hR rfl dX2_next_299 hw
theorem t_X2_next_J144 {p : Program} {l : Launch} {e : Env} {s : State} {m : MethodId} {args : Array Value} {below : List Frame} {meth : Method} {c : Code} {g : GT} {h0 : AH} {v0 : Option Nat} {v1 : Int32} {s0 : Int32} {s1 : Option Nat} {K : Unit → AH → Prop} {E : Nat → AH → Prop} {h : AH} {H : Heap} {locs : List Loc} {cells slots : Nat} {ls : Array Slot} (X : Cx g h0 p s m args meth c RX2 cX2_next 3 none)  (hw : w_X2_next_J144 g v0 v1 s0 s1 K E h) (hR : HS g s h H locs) (hl : lv_has ls 3 [(0, va_rf v0), (1, .int v1)]) : W p l e (RM 8 h0) s m args below meth c H locs cells slots (MQT below g (qV K) E args s h0) (F0 m 144 ls [.int s0, va_rf s1]) := by
  have hx := X.hx
  have hb := X.hb
  unfold w_X2_next_J144 at hw
  refine r_put X hR fp_X2_47 (Or.inl fn_X2_47) (nf_int _) dX2_next_144 hw (fun H locs h hR hw => ?_)
  refine r_aload_n X dX2_next_147 rfl (lv_at hl 0 rfl) ?_
  refine r_aload_n X dX2_next_148 rfl (lv_at hl 0 rfl) ?_
  refine r_gI X hR fk_X2_47 dX2_next_149 hw (fun x29 hw => ?_)
  refine lv_iconst (v := 2) hx hb dX2_next_152 (by decide) ?_
  refine lv_icmp_ne (tgt := 177) hx hb dX2_next_153 (by decide) (fun c30 => ?_) (fun c30 => ?_)
  · have hw := hw.1 c30
    refine r_ldcS X (tx := "") (List.mem_of_getElem? (i := 0) rfl) dX2_next_177 ?_
    exact t_X2_next_J179 X  hw hR (lv_sub hl [] rfl)
  · have hw := hw.2 c30
    refine r_new X hR nk_X2_54 dX2_next_156 hw (fun H cells slots x31 h hR hw => ?_)
    refine lv_dup hx hb dX2_next_159 (cat_rf _) ?_
    refine r_aload_n X dX2_next_160 rfl (lv_at hl 0 rfl) ?_
    refine r_gR X hR fk_X2_18 dX2_next_161 hw (fun x32 hw => ?_)
    refine lv_iconst (v := 0) hx hb dX2_next_164 (by decide) ?_
    refine r_aload_n X dX2_next_165 rfl (lv_at hl 0 rfl) ?_
    refine r_gI X hR fk_X2_40 dX2_next_166 hw (fun x33 hw => ?_)
    refine lv_iload_n hx hb dX2_next_169 rfl (lv_at hl 1 rfl) ?_
    refine lv_isub hx hb dX2_next_170 ?_
    refine r_callV X hR (c_I X hR hl.1 (c_J3_init l g x31 x32 0 (x33 - v1)) (lw_meth q562) q127 q560 q561 rfl mh_J3_init rfl (by decide) (by decide) rfl (cat4 (Nat.le_of_ble_eq_true rfl)) dX2_next_171 hw) (fun _ h H locs cells slots hR hw => ?_)
    refine lv_goto (tgt := 179) hx hb dX2_next_174 (by decide) ?_
    exact t_X2_next_J179 X  hw hR (lv_sub hl [] rfl)
theorem t_X2_next_J114 {p : Program} {l : Launch} {e : Env} {s : State} {m : MethodId} {args : Array Value} {below : List Frame} {meth : Method} {c : Code} {g : GT} {h0 : AH} {v0 : Option Nat} {v1 : Int32} {K : Unit → AH → Prop} {E : Nat → AH → Prop} {L69 : AH → Prop} {h : AH} {H : Heap} {locs : List Loc} {cells slots : Nat} {ls : Array Slot} (X : Cx g h0 p s m args meth c RX2 cX2_next 3 none) (k69 : ∀ {h : AH} {H : Heap} {locs : List Loc} {cells slots : Nat} {ls : Array Slot}, L69 h → HS g s h H locs → lv_has ls 3 [(0, va_rf v0), (1, .int v1)] → W p l e (RM 8 h0) s m args below meth c H locs cells slots (MQT below g (qV K) E args s h0) (F0 m 69 ls [])) (hw : w_X2_next_J114 g v0 v1 K E L69 h) (hR : HS g s h H locs) (hl : lv_has ls 3 [(0, va_rf v0), (1, .int v1)]) : W p l e (RM 8 h0) s m args below meth c H locs cells slots (MQT below g (qV K) E args s h0) (F0 m 114 ls []) := by
  have hx := X.hx
  have hb := X.hb
  unfold w_X2_next_J114 at hw
  refine r_aload_n X dX2_next_114 rfl (lv_at hl 0 rfl) ?_
  refine lv_dup hx hb dX2_next_115 (cat_rf _) ?_
  refine r_gI X hR fk_X2_40 dX2_next_116 hw (fun x36 hw => ?_)
  refine lv_iconst (v := 1) hx hb dX2_next_119 (by decide) ?_
  refine lv_iadd hx hb dX2_next_120 ?_
  refine r_put X hR fp_X2_40 (Or.inl fn_X2_40) (nf_int _) dX2_next_121 hw (fun H locs h hR hw => ?_)
  refine lv_goto (tgt := 69) hx hb dX2_next_124 (by decide) ?_
  exact k69 hw hR (lv_sub hl [0, 1] rfl)
theorem t_X2_next_L69 {p : Program} {l : Launch} {e : Env} {s : State} {m : MethodId} {args : Array Value} {below : List Frame} {meth : Method} {c : Code} {g : GT} {h0 : AH} {v0 : Option Nat} {v1 : Int32} {K : Unit → AH → Prop} {E : Nat → AH → Prop} (X : Cx g h0 p s m args meth c RX2 cX2_next 3 none)  : ∀ (n : Nat) {h : AH} {H : Heap} {locs : List Loc} {cells slots : Nat} {ls : Array Slot}, LpN0 (w_X2_next_L69 g v0 v1 K E) n h → HS g s h H locs → lv_has ls 3 [(0, va_rf v0), (1, .int v1)] → W p l e (RM 8 h0) s m args below meth c H locs cells slots (MQT below g (qV K) E args s h0) (F0 m 69 ls []) := by
  have hx := X.hx
  have hb := X.hb
  intro n
  induction n with
  | zero =>
    intro h H locs cells slots ls hw
    exact hw.elim
  | succ n k69 =>
    intro h H locs cells slots ls hw hR hl
    have hw : w_X2_next_L69 g v0 v1 K E (LpN0 (w_X2_next_L69 g v0 v1 K E) n) h := hw
    unfold w_X2_next_L69 at hw
    refine r_aload_n X dX2_next_69 rfl (lv_at hl 0 rfl) ?_
    refine r_aload_n X dX2_next_70 rfl (lv_at hl 0 rfl) ?_
    refine r_gI X hR fk_X2_40 dX2_next_71 hw (fun x23 hw => ?_)
    refine r_callI X hR (c_V (ci := 2) (q := (RX2, TX2, 10)) X hR hl.1 (c_X2_see l g v0 x23) (lw_V q550 q552 qs5 q116 q553) rfl rfl mh_X2_see rfl (by decide) (by decide) rfl (cat4 (Nat.le_of_ble_eq_true rfl)) dX2_next_74 hw) (fun x24 h H locs cells slots hR hw => ?_)
    refine r_callI X hR (c_S X hR hl.1 (c_X2_isSmall l g x24) (lw_S q554 q555 q116 q556) mh_X2_isSmall rfl (by decide) (by decide) rfl (cat4 (Nat.le_of_ble_eq_true rfl)) dX2_next_77 hw) (fun x25 h H locs cells slots hR hw => ?_)
    refine lv_if_eq (tgt := 127) hx hb dX2_next_80 (by decide) (fun c26 => ?_) (fun c26 => ?_)
    · have hw := hw.1 c26
      refine r_aload_n X dX2_next_127 rfl (lv_at hl 0 rfl) ?_
      refine r_aload_n X dX2_next_128 rfl (lv_at hl 0 rfl) ?_
      refine r_gI X hR fk_X2_40 dX2_next_129 hw (fun x27 hw => ?_)
      refine lv_iload_n hx hb dX2_next_132 rfl (lv_at hl 1 rfl) ?_
      refine lv_isub hx hb dX2_next_133 ?_
      refine lv_bipush (v := 8) hx hb dX2_next_134 (by decide) ?_
      refine lv_icmp_le (tgt := 143) hx hb dX2_next_136 (by decide) (fun c28 => ?_) (fun c28 => ?_)
      · have hw := hw.1 c28
        refine lv_iconst (v := 2) hx hb dX2_next_143 (by decide) ?_
        exact t_X2_next_J144 X  hw hR (lv_sub hl [0, 1] rfl)
      · have hw := hw.2 c28
        refine lv_iconst (v := 1) hx hb dX2_next_139 (by decide) ?_
        refine lv_goto (tgt := 144) hx hb dX2_next_140 (by decide) ?_
        exact t_X2_next_J144 X  hw hR (lv_sub hl [0, 1] rfl)
    · have hw := hw.2 c26
      refine r_aload_n X dX2_next_83 rfl (lv_at hl 0 rfl) ?_
      refine r_gI X hR fk_X2_40 dX2_next_84 hw (fun x34 hw => ?_)
      refine lv_iload_n hx hb dX2_next_87 rfl (lv_at hl 1 rfl) ?_
      refine lv_isub hx hb dX2_next_88 ?_
      refine lv_bipush (v := 8) hx hb dX2_next_89 (by decide) ?_
      refine lv_icmp_ge (tgt := 114) hx hb dX2_next_91 (by decide) (fun c35 => ?_) (fun c35 => ?_)
      · have hw := hw.1 c35
        exact t_X2_next_J114 X k69 hw hR (lv_sub hl [0, 1] rfl)
      · have hw := hw.2 c35
        refine r_aload_n X dX2_next_94 rfl (lv_at hl 0 rfl) ?_
        refine r_gR X hR fk_X2_18 dX2_next_95 hw (fun x37 hw => ?_)
        refine r_aload_n X dX2_next_98 rfl (lv_at hl 0 rfl) ?_
        refine r_gI X hR fk_X2_40 dX2_next_99 hw (fun x38 hw => ?_)
        refine lv_iload_n hx hb dX2_next_102 rfl (lv_at hl 1 rfl) ?_
        refine lv_isub hx hb dX2_next_103 ?_
        refine r_aload_n X dX2_next_104 rfl (lv_at hl 0 rfl) ?_
        refine r_aload_n X dX2_next_105 rfl (lv_at hl 0 rfl) ?_
        refine r_gI X hR fk_X2_40 dX2_next_106 hw (fun x39 hw => ?_)
        refine r_callI X hR (c_V (ci := 2) (q := (RX2, TX2, 10)) X hR hl.1 (c_X2_see l g v0 x39) (lw_V q550 q552 qs5 q116 q553) rfl rfl mh_X2_see rfl (by decide) (by decide) rfl (cat4 (Nat.le_of_ble_eq_true rfl)) dX2_next_109 hw) (fun x40 h H locs cells slots hR hw => ?_)
        refine lv_i2c hx hb dX2_next_112 rfl ?_
        refine r_cast X hR dX2_next_113 hw (fun H locs h hR hw => ?_)
        exact t_X2_next_J114 X k69 hw hR (lv_sub hl [0, 1] rfl)
theorem t_X2_next_L5 {p : Program} {l : Launch} {e : Env} {s : State} {m : MethodId} {args : Array Value} {below : List Frame} {meth : Method} {c : Code} {g : GT} {h0 : AH} {v0 : Option Nat} {K : Unit → AH → Prop} {E : Nat → AH → Prop} (X : Cx g h0 p s m args meth c RX2 cX2_next 3 none)  : ∀ (n : Nat) {v1 : Int32} {h : AH} {H : Heap} {locs : List Loc} {cells slots : Nat} {ls : Array Slot}, LpN1 (w_X2_next_L5 g v0 K E) n v1 h → HS g s h H locs → lv_has ls 3 [(0, va_rf v0), (1, .int v1)] → W p l e (RM 8 h0) s m args below meth c H locs cells slots (MQT below g (qV K) E args s h0) (F0 m 5 ls []) := by
  have hx := X.hx
  have hb := X.hb
  intro n
  induction n with
  | zero =>
    intro v1 h H locs cells slots ls hw
    exact hw.elim
  | succ n k5 =>
    intro v1 h H locs cells slots ls hw hR hl
    have hw : w_X2_next_L5 g v0 K E (LpN1 (w_X2_next_L5 g v0 K E) n) v1 h := hw
    unfold w_X2_next_L5 at hw
    refine r_aload_n X dX2_next_5 rfl (lv_at hl 0 rfl) ?_
    refine lv_iload_n hx hb dX2_next_6 rfl (lv_at hl 1 rfl) ?_
    refine r_callI X hR (c_V (ci := 2) (q := (RX2, TX2, 10)) X hR hl.1 (c_X2_see l g v0 v1) (lw_V q550 q552 qs5 q116 q553) rfl rfl mh_X2_see rfl (by decide) (by decide) rfl (cat4 (Nat.le_of_ble_eq_true rfl)) dX2_next_7 hw) (fun x2 h H locs cells slots hR hw => ?_)
    refine lv_bipush (v := 32) hx hb dX2_next_10 (by decide) ?_
    refine lv_icmp_ne (tgt := 21) hx hb dX2_next_12 (by decide) (fun c3 => ?_) (fun c3 => ?_)
    · have hw := hw.1 c3
      refine r_aload_n X dX2_next_21 rfl (lv_at hl 0 rfl) ?_
      refine lv_iload_n hx hb dX2_next_22 rfl (lv_at hl 1 rfl) ?_
      refine r_put X hR fp_X2_26 (Or.inl fn_X2_26) (nf_int _) dX2_next_23 hw (fun H locs h hR hw => ?_)
      refine r_aload_n X dX2_next_26 rfl (lv_at hl 0 rfl) ?_
      refine lv_iload_n hx hb dX2_next_27 rfl (lv_at hl 1 rfl) ?_
      refine lv_iconst (v := 1) hx hb dX2_next_28 (by decide) ?_
      refine lv_iadd hx hb dX2_next_29 ?_
      refine r_put X hR fp_X2_40 (Or.inl fn_X2_40) (nf_int _) dX2_next_30 hw (fun H locs h hR hw => ?_)
      refine r_aload_n X dX2_next_33 rfl (lv_at hl 0 rfl) ?_
      refine lv_iload_n hx hb dX2_next_34 rfl (lv_at hl 1 rfl) ?_
      refine r_callI X hR (c_V (ci := 2) (q := (RX2, TX2, 10)) X hR hl.1 (c_X2_see l g v0 v1) (lw_V q550 q552 qs5 q116 q553) rfl rfl mh_X2_see rfl (by decide) (by decide) rfl (cat4 (Nat.le_of_ble_eq_true rfl)) dX2_next_35 hw) (fun x4 h H locs cells slots hR hw => ?_)
      refine lv_istore_n (i := 2) (lv' := [(2, .int x4), (0, va_rf v0), (1, .int v1)]) hx hb dX2_next_38 rfl hl (by decide) rfl (fun ls hl => ?_)
      refine lv_iload_n hx hb dX2_next_39 rfl (lv_at hl 0 rfl) ?_
      refine lv_iconst (v := (-1)) hx hb dX2_next_40 (by decide) ?_
      refine lv_icmp_ne (tgt := 57) hx hb dX2_next_41 (by decide) (fun c5 => ?_) (fun c5 => ?_)
      · have hw := hw.1 c5
        refine lv_iload_n hx hb dX2_next_57 rfl (lv_at hl 0 rfl) ?_
        refine r_callI X hR (c_S X hR hl.1 (c_X2_isSmall l g x4) (lw_S q554 q555 q116 q556) mh_X2_isSmall rfl (by decide) (by decide) rfl (cat4 (Nat.le_of_ble_eq_true rfl)) dX2_next_58 hw) (fun x6 h H locs cells slots hR hw => ?_)
        refine lv_if_eq (tgt := 185) hx hb dX2_next_61 (by decide) (fun c7 => ?_) (fun c7 => ?_)
        · have hw := hw.1 c7
          refine lv_iload_n hx hb dX2_next_185 rfl (lv_at hl 0 rfl) ?_
          refine r_callI X hR (c_S X hR hl.1 (c_X2_isDigit l g x4) (lw_S q637 q638 q116 q639) mh_X2_isDigit rfl (by decide) (by decide) rfl (cat4 (Nat.le_of_ble_eq_true rfl)) dX2_next_186 hw) (fun x8 h H locs cells slots hR hw => ?_)
          refine lv_if_eq (tgt := 284) hx hb dX2_next_189 (by decide) (fun c9 => ?_) (fun c9 => ?_)
          · have hw := hw.1 c9
            refine r_aload_n X dX2_next_284 rfl (lv_at hl 1 rfl) ?_
            refine lv_iload_n hx hb dX2_next_285 rfl (lv_at hl 0 rfl) ?_
            refine lv_bipush (v := 59) hx hb dX2_next_286 (by decide) ?_
            refine lv_icmp_ne (tgt := 295) hx hb dX2_next_288 (by decide) (fun c10 => ?_) (fun c10 => ?_)
            · have hw := hw.1 c10
              refine lv_iconst (v := 1) hx hb dX2_next_295 (by decide) ?_
              exact t_X2_next_J296 X  hw hR (lv_sub hl [] rfl)
            · have hw := hw.2 c10
              refine lv_iload_n hx hb dX2_next_291 rfl (lv_at hl 0 rfl) ?_
              refine lv_goto (tgt := 296) hx hb dX2_next_292 (by decide) ?_
              exact t_X2_next_J296 X  hw hR (lv_sub hl [] rfl)
          · have hw := hw.2 c9
            refine r_aload_n X dX2_next_192 rfl (lv_at hl 1 rfl) ?_
            refine lv_iconst (v := 0) hx hb dX2_next_193 (by decide) ?_
            refine r_put X hR fp_X2_68 (Or.inl fn_X2_68) (nf_int _) dX2_next_194 hw (fun H locs h hR hw => ?_)
            refine r_aload_n X dX2_next_197 rfl (lv_at hl 1 rfl) ?_
            refine lv_iload_n hx hb dX2_next_198 rfl (lv_at hl 2 rfl) ?_
            refine r_put X hR fp_X2_40 (Or.inl fn_X2_40) (nf_int _) dX2_next_199 hw (fun H locs h hR hw => ?_)
            obtain ⟨n, hw⟩ := hw
            exact t_X2_next_L202 X  n hw hR (lv_sub hl [1, 2] rfl)
        · have hw := hw.2 c7
          refine r_aload_n X dX2_next_64 rfl (lv_at hl 1 rfl) ?_
          refine lv_iload_n hx hb dX2_next_65 rfl (lv_at hl 2 rfl) ?_
          refine r_put X hR fp_X2_40 (Or.inl fn_X2_40) (nf_int _) dX2_next_66 hw (fun H locs h hR hw => ?_)
          obtain ⟨n, hw⟩ := hw
          exact t_X2_next_L69 X  n hw hR (lv_sub hl [1, 2] rfl)
      · have hw := hw.2 c5
        refine r_aload_n X dX2_next_44 rfl (lv_at hl 1 rfl) ?_
        refine lv_iconst (v := 0) hx hb dX2_next_45 (by decide) ?_
        refine r_put X hR fp_X2_47 (Or.inl fn_X2_47) (nf_int _) dX2_next_46 hw (fun H locs h hR hw => ?_)
        refine r_aload_n X dX2_next_49 rfl (lv_at hl 1 rfl) ?_
        refine lv_iload_n hx hb dX2_next_50 rfl (lv_at hl 2 rfl) ?_
        refine r_put X hR fp_X2_40 (Or.inl fn_X2_40) (nf_int _) dX2_next_51 hw (fun H locs h hR hw => ?_)
        refine lv_goto (tgt := 299) hx hb dX2_next_54 (by decide) ?_
        exact r_vret X hR rfl dX2_next_299 hw
    · have hw := hw.2 c3
      refine r_iinc X (k := 1) (v := (v1 + 1)) (lv' := fun x41 => [(1, .int x41), (0, va_rf v0)]) dX2_next_15 hl rfl rfl (by decide) hw (fun _ => by simp [cat_rf, cat_int, cat_long]) (fun x41 hw ls hl => ?_)
      refine lv_goto (tgt := 5) hx hb dX2_next_18 (by decide) ?_
      exact k5 hw hR (lv_sub hl [1, 0] rfl)
theorem c_X2_next (l : Launch) (g : GT) (v0 : Option Nat) : CT qV l yX2_next (ws_ yX2_next cX2_next 3 none) 8 g [va_rf v0] (fun K E h => w_X2_next g v0 K E h) := by
  refine CT_of (lv := [(0, va_rf v0)]) (by decide +kernel) (by simp [lg_sl, cat_rf, cat_int, cat_long]) (by simp [lv_args, cat_rf, cat_int, cat_long]) (fun h0 K E p e s m args below meth c H locs cells slots ls X hxt hmn hw hR hl => ?_)
  have hx := X.hx
  have hb := X.hb
  unfold w_X2_next at hw
  refine r_aload_n X dX2_next_0 rfl (lv_at hl 0 rfl) ?_
  refine r_gI X hR fk_X2_40 dX2_next_1 hw (fun x1 hw => ?_)
  refine lv_istore_n (i := 1) (lv' := [(1, .int x1), (0, va_rf v0)]) hx hb dX2_next_4 rfl hl (by decide) (by simp [cat_rf, cat_int, cat_long]) (fun ls hl => ?_)
  obtain ⟨n, hw⟩ := hw
  exact t_X2_next_L5 X  n hw hR (lv_sub hl [1, 0] rfl)
theorem c_X3_at (l : Launch) (g : GT) (v0 : Option Nat) (v1 : Int32) (v2 : Int32) : CT qR l yX3_at (ws_ yX3_at cX3_at 3 (Option.some (Jvm.ClassFile.FieldType.object "UmbrellaHeir$Refused"))) 1 g [va_rf v0, .int v1, .int v2] (fun K E h => w_X3_at g v0 v1 v2 K E h) := by
  refine CT_of (lv := [(0, va_rf v0), (1, .int v1), (2, .int v2)]) (by decide +kernel) (by simp [lg_sl, cat_rf, cat_int, cat_long]) (by simp [lv_args, cat_rf, cat_int, cat_long]) (fun h0 K E p e s m args below meth c H locs cells slots ls X hxt hmn hw hR hl => ?_)
  have hx := X.hx
  have hb := X.hb
  unfold w_X3_at at hw
  refine r_aload_n X dX3_at_0 rfl (lv_at hl 0 rfl) ?_
  refine lv_iload_n hx hb dX3_at_1 rfl (lv_at hl 1 rfl) ?_
  refine r_put X hR fp_X3_15 (Or.inl fn_X3_15) (nf_int _) dX3_at_2 hw (fun H locs h hR hw => ?_)
  refine r_aload_n X dX3_at_5 rfl (lv_at hl 0 rfl) ?_
  refine lv_iload_n hx hb dX3_at_6 rfl (lv_at hl 2 rfl) ?_
  refine r_put X hR fp_X3_9 (Or.inl fn_X3_9) (nf_int _) dX3_at_7 hw (fun H locs h hR hw => ?_)
  refine r_aload_n X dX3_at_10 rfl (lv_at hl 0 rfl) ?_
  exact r_aret X (Or.inl ⟨_, rfl⟩) hR dX3_at_11 hw
theorem c_X2_fail (l : Launch) (g : GT) (v0 : Option Nat) (v1 : Int32) : CT qR l yX2_fail (ws_ yX2_fail cX2_fail 2 (Option.some (Jvm.ClassFile.FieldType.object "UmbrellaHeir$Refused"))) 2 g [va_rf v0, .int v1] (fun K E h => w_X2_fail g v0 v1 K E h) := by
  refine CT_of (lv := [(0, va_rf v0), (1, .int v1)]) (by decide +kernel) (by simp [lg_sl, cat_rf, cat_int, cat_long]) (by simp [lv_args, cat_rf, cat_int, cat_long]) (fun h0 K E p e s m args below meth c H locs cells slots ls X hxt hmn hw hR hl => ?_)
  have hx := X.hx
  have hb := X.hb
  unfold w_X2_fail at hw
  refine r_aload_n X dX2_fail_0 rfl (lv_at hl 0 rfl) ?_
  refine r_gR X hR fk_X2_12 dX2_fail_1 hw (fun x1 hw => ?_)
  refine lv_iload_n hx hb dX2_fail_4 rfl (lv_at hl 1 rfl) ?_
  refine r_aload_n X dX2_fail_5 rfl (lv_at hl 0 rfl) ?_
  refine r_gI X hR fk_X2_26 dX2_fail_6 hw (fun x2 hw => ?_)
  refine r_callR X hR (c_V (ci := 3) (q := (RX3, TX3, 8)) X hR hl.1 (c_X3_at l g x1 v1 x2) (lw_V q648 q649 q650 q120 q651) rfl rfl mh_X3_at rfl (by decide) (by decide) rfl (cat4 (Nat.le_of_ble_eq_true rfl)) dX2_fail_9 hw) (fun x3 h H locs cells slots hR hw => ?_)
  exact r_aret X (Or.inl ⟨_, rfl⟩) hR dX2_fail_12 hw
theorem c_J3_isLatin1 (l : Launch) (g : GT) (v0 : Option Nat) : CT qI l yJ3_isLatin1 (ws_ yJ3_isLatin1 cJ3_isLatin1 1 (Option.some Jvm.ClassFile.FieldType.boolean)) 1 g [va_rf v0] (fun K E h => w_J3_isLatin1 g v0 K E h) := by
  refine CT_of (lv := [(0, va_rf v0)]) (by decide +kernel) (by simp [lg_sl, cat_rf, cat_int, cat_long]) (by simp [lv_args, cat_rf, cat_int, cat_long]) (fun h0 K E p e s m args below meth c H locs cells slots ls X hxt hmn hw hR hl => ?_)
  have hx := X.hx
  have hb := X.hb
  unfold w_J3_isLatin1 at hw
  refine r_gets X hR (v := .int 1) (List.mem_of_getElem? (i := 0) rfl) q579 dJ3_isLatin1_0 ?_
  refine lv_if_eq (tgt := 17) hx hb dJ3_isLatin1_3 (by decide) (fun c1 => ?_) (fun c1 => ?_)
  · have hw := hw.1 c1
    refine lv_iconst (v := 0) hx hb dJ3_isLatin1_17 (by decide) ?_
    exact r_zret X hR dJ3_isLatin1_18 hw
  · have hw := hw.2 c1
    refine r_aload_n X dJ3_isLatin1_6 rfl (lv_at hl 0 rfl) ?_
    refine r_gI X hR fk_J3_15 dJ3_isLatin1_7 hw (fun x2 hw => ?_)
    refine lv_if_ne (tgt := 17) hx hb dJ3_isLatin1_10 (by decide) (fun c3 => ?_) (fun c3 => ?_)
    · have hw := hw.1 c3
      refine lv_iconst (v := 0) hx hb dJ3_isLatin1_17 (by decide) ?_
      exact r_zret X hR dJ3_isLatin1_18 hw
    · have hw := hw.2 c3
      refine lv_iconst (v := 1) hx hb dJ3_isLatin1_13 (by decide) ?_
      refine lv_goto (tgt := 18) hx hb dJ3_isLatin1_14 (by decide) ?_
      exact r_zret X hR dJ3_isLatin1_18 hw
theorem t_J7_signedHashCode_L8 {p : Program} {l : Launch} {e : Env} {s : State} {m : MethodId} {args : Array Value} {below : List Frame} {meth : Method} {c : Code} {g : GT} {h0 : AH} {v1 : Option Nat} {v4 : Int32} {K : Int32 → AH → Prop} {E : Nat → AH → Prop} (X : Cx g h0 p s m args meth c RJ7 cJ7_signedHashCode 6 (Option.some Jvm.ClassFile.FieldType.int))  : ∀ (n : Nat) {v0 : Int32} {v5 : Int32} {h : AH} {H : Heap} {locs : List Loc} {cells slots : Nat} {ls : Array Slot}, LpN2 (w_J7_signedHashCode_L8 g v1 v4 K E) n v0 v5 h → HS g s h H locs → lv_has ls 6 [(0, .int v0), (1, va_rf v1), (4, .int v4), (5, .int v5)] → W p l e (RM 1 h0) s m args below meth c H locs cells slots (MQT below g (qI K) E args s h0) (F0 m 8 ls []) := by
  have hx := X.hx
  have hb := X.hb
  intro n
  induction n with
  | zero =>
    intro v0 v5 h H locs cells slots ls hw
    exact hw.elim
  | succ n k8 =>
    intro v0 v5 h H locs cells slots ls hw hR hl
    have hw : w_J7_signedHashCode_L8 g v1 v4 K E (LpN2 (w_J7_signedHashCode_L8 g v1 v4 K E) n) v0 v5 h := hw
    unfold w_J7_signedHashCode_L8 at hw
    refine lv_iload hx hb dJ7_signedHashCode_8 (lv_at hl 3 rfl) ?_
    refine lv_iload hx hb dJ7_signedHashCode_10 (lv_at hl 2 rfl) ?_
    refine lv_icmp_ge (tgt := 35) hx hb dJ7_signedHashCode_12 (by decide) (fun c2 => ?_) (fun c2 => ?_)
    · have hw := hw.1 c2
      refine lv_iload_n hx hb dJ7_signedHashCode_35 rfl (lv_at hl 0 rfl) ?_
      exact r_iret X hR dJ7_signedHashCode_36 hw
    · have hw := hw.2 c2
      refine lv_bipush (v := 31) hx hb dJ7_signedHashCode_15 (by decide) ?_
      refine lv_iload_n hx hb dJ7_signedHashCode_17 rfl (lv_at hl 0 rfl) ?_
      refine lv_imul hx hb dJ7_signedHashCode_18 ?_
      refine r_aload_n X dJ7_signedHashCode_19 rfl (lv_at hl 1 rfl) ?_
      refine lv_iload hx hb dJ7_signedHashCode_20 (lv_at hl 3 rfl) ?_
      refine r_bald X hR dJ7_signedHashCode_22 hw (fun x3 hw => ?_)
      refine lv_sipush (v := 255) hx hb dJ7_signedHashCode_23 (by decide) ?_
      refine lv_iand hx hb dJ7_signedHashCode_26 ?_
      refine lv_iadd hx hb dJ7_signedHashCode_27 ?_
      refine r_nmI hw (fun x4 hw => ?_)
      refine lv_istore_n (i := 0) (lv' := [(0, .int x4), (1, va_rf v1), (4, .int v4), (5, .int v5)]) hx hb dJ7_signedHashCode_28 rfl hl (by decide) rfl (fun ls hl => ?_)
      refine r_iinc X (k := 3) (v := (v5 + 1)) (lv' := fun x5 => [(5, .int x5), (0, .int x4), (1, va_rf v1), (4, .int v4)]) dJ7_signedHashCode_29 hl rfl rfl (by decide) hw (fun _ => rfl) (fun x5 hw ls hl => ?_)
      refine lv_goto (tgt := 8) hx hb dJ7_signedHashCode_32 (by decide) ?_
      exact k8 hw hR (lv_sub hl [1, 2, 3, 0] rfl)
theorem c_J7_signedHashCode (l : Launch) (g : GT) (v0 : Int32) (v1 : Option Nat) (v2 : Int32) (v3 : Int32) : CT qI l yJ7_signedHashCode (ws_ yJ7_signedHashCode cJ7_signedHashCode 6 (Option.some Jvm.ClassFile.FieldType.int)) 1 g [.int v0, va_rf v1, .int v2, .int v3] (fun K E h => w_J7_signedHashCode g v0 v1 v2 v3 K E h) := by
  refine CT_of (lv := [(0, .int v0), (1, va_rf v1), (2, .int v2), (3, .int v3)]) (by decide +kernel) (by simp [lg_sl, cat_rf, cat_int, cat_long]) (by simp [lv_args, cat_rf, cat_int, cat_long]) (fun h0 K E p e s m args below meth c H locs cells slots ls X hxt hmn hw hR hl => ?_)
  have hx := X.hx
  have hb := X.hb
  unfold w_J7_signedHashCode at hw
  refine lv_iload_n hx hb dJ7_signedHashCode_0 rfl (lv_at hl 2 rfl) ?_
  refine lv_iload_n hx hb dJ7_signedHashCode_1 rfl (lv_at hl 3 rfl) ?_
  refine lv_iadd hx hb dJ7_signedHashCode_2 ?_
  refine r_nmI hw (fun x1 hw => ?_)
  refine lv_istore (i := 4) (lv' := [(4, .int x1), (0, .int v0), (1, va_rf v1), (2, .int v2), (3, .int v3)]) hx hb dJ7_signedHashCode_3 hl (by decide) rfl (fun ls hl => ?_)
  refine lv_iload_n hx hb dJ7_signedHashCode_5 rfl (lv_at hl 3 rfl) ?_
  refine lv_istore (i := 5) (lv' := [(5, .int v2), (4, .int x1), (0, .int v0), (1, va_rf v1), (2, .int v2), (3, .int v3)]) hx hb dJ7_signedHashCode_6 hl (by decide) rfl (fun ls hl => ?_)
  obtain ⟨n, hw⟩ := hw
  exact t_J7_signedHashCode_L8 X  n hw hR (lv_sub hl [2, 3, 1, 0] rfl)
theorem t_J7_utf16hashCode_L8 {p : Program} {l : Launch} {e : Env} {s : State} {m : MethodId} {args : Array Value} {below : List Frame} {meth : Method} {c : Code} {g : GT} {h0 : AH} {v1 : Option Nat} {v4 : Int32} {K : Int32 → AH → Prop} {E : Nat → AH → Prop} (X : Cx g h0 p s m args meth c RJ7 cJ7_utf16hashCode 6 (Option.some Jvm.ClassFile.FieldType.int))  : ∀ (n : Nat) {v0 : Int32} {v5 : Int32} {h : AH} {H : Heap} {locs : List Loc} {cells slots : Nat} {ls : Array Slot}, LpN2 (w_J7_utf16hashCode_L8 g v1 v4 K E) n v0 v5 h → HS g s h H locs → lv_has ls 6 [(0, .int v0), (1, va_rf v1), (4, .int v4), (5, .int v5)] → W p l e (RM 1 h0) s m args below meth c H locs cells slots (MQT below g (qI K) E args s h0) (F0 m 8 ls []) := by
  have hx := X.hx
  have hb := X.hb
  intro n
  induction n with
  | zero =>
    intro v0 v5 h H locs cells slots ls hw
    exact hw.elim
  | succ n k8 =>
    intro v0 v5 h H locs cells slots ls hw hR hl
    have hw : w_J7_utf16hashCode_L8 g v1 v4 K E (LpN2 (w_J7_utf16hashCode_L8 g v1 v4 K E) n) v0 v5 h := hw
    unfold w_J7_utf16hashCode_L8 at hw
    refine lv_iload hx hb dJ7_utf16hashCode_8 (lv_at hl 3 rfl) ?_
    refine lv_iload hx hb dJ7_utf16hashCode_10 (lv_at hl 2 rfl) ?_
    refine lv_icmp_ge (tgt := 38) hx hb dJ7_utf16hashCode_12 (by decide) (fun c2 => ?_) (fun c2 => ?_)
    · have hw := hw.1 c2
      refine lv_iload_n hx hb dJ7_utf16hashCode_38 rfl (lv_at hl 0 rfl) ?_
      exact r_iret X hR dJ7_utf16hashCode_39 hw
    · have hw := hw.2 c2
      refine lv_bipush (v := 31) hx hb dJ7_utf16hashCode_15 (by decide) ?_
      refine lv_iload_n hx hb dJ7_utf16hashCode_17 rfl (lv_at hl 0 rfl) ?_
      refine lv_imul hx hb dJ7_utf16hashCode_18 ?_
      exact hw.elim
theorem c_J7_utf16hashCode (l : Launch) (g : GT) (v0 : Int32) (v1 : Option Nat) (v2 : Int32) (v3 : Int32) : CT qI l yJ7_utf16hashCode (ws_ yJ7_utf16hashCode cJ7_utf16hashCode 6 (Option.some Jvm.ClassFile.FieldType.int)) 1 g [.int v0, va_rf v1, .int v2, .int v3] (fun K E h => w_J7_utf16hashCode g v0 v1 v2 v3 K E h) := by
  refine CT_of (lv := [(0, .int v0), (1, va_rf v1), (2, .int v2), (3, .int v3)]) (by decide +kernel) (by simp [lg_sl, cat_rf, cat_int, cat_long]) (by simp [lv_args, cat_rf, cat_int, cat_long]) (fun h0 K E p e s m args below meth c H locs cells slots ls X hxt hmn hw hR hl => ?_)
  have hx := X.hx
  have hb := X.hb
  unfold w_J7_utf16hashCode at hw
  refine lv_iload_n hx hb dJ7_utf16hashCode_0 rfl (lv_at hl 2 rfl) ?_
  refine lv_iload_n hx hb dJ7_utf16hashCode_1 rfl (lv_at hl 3 rfl) ?_
  refine lv_iadd hx hb dJ7_utf16hashCode_2 ?_
  refine r_nmI hw (fun x1 hw => ?_)
  refine lv_istore (i := 4) (lv' := [(4, .int x1), (0, .int v0), (1, va_rf v1), (2, .int v2), (3, .int v3)]) hx hb dJ7_utf16hashCode_3 hl (by decide) rfl (fun ls hl => ?_)
  refine lv_iload_n hx hb dJ7_utf16hashCode_5 rfl (lv_at hl 3 rfl) ?_
  refine lv_istore (i := 5) (lv' := [(5, .int v2), (4, .int x1), (0, .int v0), (1, va_rf v1), (2, .int v2), (3, .int v3)]) hx hb dJ7_utf16hashCode_6 hl (by decide) rfl (fun ls hl => ?_)
  obtain ⟨n, hw⟩ := hw
  exact t_J7_utf16hashCode_L8 X  n hw hR (lv_sub hl [2, 3, 1, 0] rfl)
theorem t_J7_hashCode_L8 {p : Program} {l : Launch} {e : Env} {s : State} {m : MethodId} {args : Array Value} {below : List Frame} {meth : Method} {c : Code} {g : GT} {h0 : AH} {v1 : Option Nat} {v4 : Int32} {K : Int32 → AH → Prop} {E : Nat → AH → Prop} (X : Cx g h0 p s m args meth c RJ7 cJ7_hashCode 6 (Option.some Jvm.ClassFile.FieldType.int))  : ∀ (n : Nat) {v0 : Int32} {v5 : Int32} {h : AH} {H : Heap} {locs : List Loc} {cells slots : Nat} {ls : Array Slot}, LpN2 (w_J7_hashCode_L8 g v1 v4 K E) n v0 v5 h → HS g s h H locs → lv_has ls 6 [(0, .int v0), (1, va_rf v1), (4, .int v4), (5, .int v5)] → W p l e (RM 1 h0) s m args below meth c H locs cells slots (MQT below g (qI K) E args s h0) (F0 m 8 ls []) := by
  have hx := X.hx
  have hb := X.hb
  intro n
  induction n with
  | zero =>
    intro v0 v5 h H locs cells slots ls hw
    exact hw.elim
  | succ n k8 =>
    intro v0 v5 h H locs cells slots ls hw hR hl
    have hw : w_J7_hashCode_L8 g v1 v4 K E (LpN2 (w_J7_hashCode_L8 g v1 v4 K E) n) v0 v5 h := hw
    unfold w_J7_hashCode_L8 at hw
    refine lv_iload hx hb dJ7_hashCode_8 (lv_at hl 3 rfl) ?_
    refine lv_iload hx hb dJ7_hashCode_10 (lv_at hl 2 rfl) ?_
    refine lv_icmp_ge (tgt := 31) hx hb dJ7_hashCode_12 (by decide) (fun c2 => ?_) (fun c2 => ?_)
    · have hw := hw.1 c2
      refine lv_iload_n hx hb dJ7_hashCode_31 rfl (lv_at hl 0 rfl) ?_
      exact r_iret X hR dJ7_hashCode_32 hw
    · have hw := hw.2 c2
      refine lv_bipush (v := 31) hx hb dJ7_hashCode_15 (by decide) ?_
      refine lv_iload_n hx hb dJ7_hashCode_17 rfl (lv_at hl 0 rfl) ?_
      refine lv_imul hx hb dJ7_hashCode_18 ?_
      refine r_aload_n X dJ7_hashCode_19 rfl (lv_at hl 1 rfl) ?_
      refine lv_iload hx hb dJ7_hashCode_20 (lv_at hl 3 rfl) ?_
      refine r_cald X hR dJ7_hashCode_22 hw (fun x3 hw => ?_)
      refine lv_iadd hx hb dJ7_hashCode_23 ?_
      refine r_nmI hw (fun x4 hw => ?_)
      refine lv_istore_n (i := 0) (lv' := [(0, .int x4), (1, va_rf v1), (4, .int v4), (5, .int v5)]) hx hb dJ7_hashCode_24 rfl hl (by decide) rfl (fun ls hl => ?_)
      refine r_iinc X (k := 3) (v := (v5 + 1)) (lv' := fun x5 => [(5, .int x5), (0, .int x4), (1, va_rf v1), (4, .int v4)]) dJ7_hashCode_25 hl rfl rfl (by decide) hw (fun _ => rfl) (fun x5 hw ls hl => ?_)
      refine lv_goto (tgt := 8) hx hb dJ7_hashCode_28 (by decide) ?_
      exact k8 hw hR (lv_sub hl [1, 2, 3, 0] rfl)
theorem c_J7_hashCode (l : Launch) (g : GT) (v0 : Int32) (v1 : Option Nat) (v2 : Int32) (v3 : Int32) : CT qI l yJ7_hashCode (ws_ yJ7_hashCode cJ7_hashCode 6 (Option.some Jvm.ClassFile.FieldType.int)) 1 g [.int v0, va_rf v1, .int v2, .int v3] (fun K E h => w_J7_hashCode g v0 v1 v2 v3 K E h) := by
  refine CT_of (lv := [(0, .int v0), (1, va_rf v1), (2, .int v2), (3, .int v3)]) (by decide +kernel) (by simp [lg_sl, cat_rf, cat_int, cat_long]) (by simp [lv_args, cat_rf, cat_int, cat_long]) (fun h0 K E p e s m args below meth c H locs cells slots ls X hxt hmn hw hR hl => ?_)
  have hx := X.hx
  have hb := X.hb
  unfold w_J7_hashCode at hw
  refine lv_iload_n hx hb dJ7_hashCode_0 rfl (lv_at hl 2 rfl) ?_
  refine lv_iload_n hx hb dJ7_hashCode_1 rfl (lv_at hl 3 rfl) ?_
  refine lv_iadd hx hb dJ7_hashCode_2 ?_
  refine r_nmI hw (fun x1 hw => ?_)
  refine lv_istore (i := 4) (lv' := [(4, .int x1), (0, .int v0), (1, va_rf v1), (2, .int v2), (3, .int v3)]) hx hb dJ7_hashCode_3 hl (by decide) rfl (fun ls hl => ?_)
  refine lv_iload_n hx hb dJ7_hashCode_5 rfl (lv_at hl 3 rfl) ?_
  refine lv_istore (i := 5) (lv' := [(5, .int v2), (4, .int x1), (0, .int v0), (1, va_rf v1), (2, .int v2), (3, .int v3)]) hx hb dJ7_hashCode_6 hl (by decide) rfl (fun ls hl => ?_)
  obtain ⟨n, hw⟩ := hw
  exact t_J7_hashCode_L8 X  n hw hR (lv_sub hl [2, 3, 1, 0] rfl)
theorem t_J7_hashCode_2_L8 {p : Program} {l : Launch} {e : Env} {s : State} {m : MethodId} {args : Array Value} {below : List Frame} {meth : Method} {c : Code} {g : GT} {h0 : AH} {v1 : Option Nat} {v4 : Int32} {K : Int32 → AH → Prop} {E : Nat → AH → Prop} (X : Cx g h0 p s m args meth c RJ7 cJ7_hashCode_2 6 (Option.some Jvm.ClassFile.FieldType.int))  : ∀ (n : Nat) {v0 : Int32} {v5 : Int32} {h : AH} {H : Heap} {locs : List Loc} {cells slots : Nat} {ls : Array Slot}, LpN2 (w_J7_hashCode_2_L8 g v1 v4 K E) n v0 v5 h → HS g s h H locs → lv_has ls 6 [(0, .int v0), (1, va_rf v1), (4, .int v4), (5, .int v5)] → W p l e (RM 1 h0) s m args below meth c H locs cells slots (MQT below g (qI K) E args s h0) (F0 m 8 ls []) := by
  have hx := X.hx
  have hb := X.hb
  intro n
  induction n with
  | zero =>
    intro v0 v5 h H locs cells slots ls hw
    exact hw.elim
  | succ n k8 =>
    intro v0 v5 h H locs cells slots ls hw hR hl
    have hw : w_J7_hashCode_2_L8 g v1 v4 K E (LpN2 (w_J7_hashCode_2_L8 g v1 v4 K E) n) v0 v5 h := hw
    unfold w_J7_hashCode_2_L8 at hw
    refine lv_iload hx hb dJ7_hashCode_2_8 (lv_at hl 3 rfl) ?_
    refine lv_iload hx hb dJ7_hashCode_2_10 (lv_at hl 2 rfl) ?_
    refine lv_icmp_ge (tgt := 31) hx hb dJ7_hashCode_2_12 (by decide) (fun c2 => ?_) (fun c2 => ?_)
    · have hw := hw.1 c2
      refine lv_iload_n hx hb dJ7_hashCode_2_31 rfl (lv_at hl 0 rfl) ?_
      exact r_iret X hR dJ7_hashCode_2_32 hw
    · have hw := hw.2 c2
      refine lv_bipush (v := 31) hx hb dJ7_hashCode_2_15 (by decide) ?_
      refine lv_iload_n hx hb dJ7_hashCode_2_17 rfl (lv_at hl 0 rfl) ?_
      refine lv_imul hx hb dJ7_hashCode_2_18 ?_
      refine r_aload_n X dJ7_hashCode_2_19 rfl (lv_at hl 1 rfl) ?_
      refine lv_iload hx hb dJ7_hashCode_2_20 (lv_at hl 3 rfl) ?_
      refine r_bald X hR dJ7_hashCode_2_22 hw (fun x3 hw => ?_)
      refine lv_iadd hx hb dJ7_hashCode_2_23 ?_
      refine r_nmI hw (fun x4 hw => ?_)
      refine lv_istore_n (i := 0) (lv' := [(0, .int x4), (1, va_rf v1), (4, .int v4), (5, .int v5)]) hx hb dJ7_hashCode_2_24 rfl hl (by decide) rfl (fun ls hl => ?_)
      refine r_iinc X (k := 3) (v := (v5 + 1)) (lv' := fun x5 => [(5, .int x5), (0, .int x4), (1, va_rf v1), (4, .int v4)]) dJ7_hashCode_2_25 hl rfl rfl (by decide) hw (fun _ => rfl) (fun x5 hw ls hl => ?_)
      refine lv_goto (tgt := 8) hx hb dJ7_hashCode_2_28 (by decide) ?_
      exact k8 hw hR (lv_sub hl [1, 2, 3, 0] rfl)
theorem c_J7_hashCode_2 (l : Launch) (g : GT) (v0 : Int32) (v1 : Option Nat) (v2 : Int32) (v3 : Int32) : CT qI l yJ7_hashCode_2 (ws_ yJ7_hashCode_2 cJ7_hashCode_2 6 (Option.some Jvm.ClassFile.FieldType.int)) 1 g [.int v0, va_rf v1, .int v2, .int v3] (fun K E h => w_J7_hashCode_2 g v0 v1 v2 v3 K E h) := by
  refine CT_of (lv := [(0, .int v0), (1, va_rf v1), (2, .int v2), (3, .int v3)]) (by decide +kernel) (by simp [lg_sl, cat_rf, cat_int, cat_long]) (by simp [lv_args, cat_rf, cat_int, cat_long]) (fun h0 K E p e s m args below meth c H locs cells slots ls X hxt hmn hw hR hl => ?_)
  have hx := X.hx
  have hb := X.hb
  unfold w_J7_hashCode_2 at hw
  refine lv_iload_n hx hb dJ7_hashCode_2_0 rfl (lv_at hl 2 rfl) ?_
  refine lv_iload_n hx hb dJ7_hashCode_2_1 rfl (lv_at hl 3 rfl) ?_
  refine lv_iadd hx hb dJ7_hashCode_2_2 ?_
  refine r_nmI hw (fun x1 hw => ?_)
  refine lv_istore (i := 4) (lv' := [(4, .int x1), (0, .int v0), (1, va_rf v1), (2, .int v2), (3, .int v3)]) hx hb dJ7_hashCode_2_3 hl (by decide) rfl (fun ls hl => ?_)
  refine lv_iload_n hx hb dJ7_hashCode_2_5 rfl (lv_at hl 3 rfl) ?_
  refine lv_istore (i := 5) (lv' := [(5, .int v2), (4, .int x1), (0, .int v0), (1, va_rf v1), (2, .int v2), (3, .int v3)]) hx hb dJ7_hashCode_2_6 hl (by decide) rfl (fun ls hl => ?_)
  obtain ⟨n, hw⟩ := hw
  exact t_J7_hashCode_2_L8 X  n hw hR (lv_sub hl [2, 3, 1, 0] rfl)
theorem t_J7_hashCode_3_L8 {p : Program} {l : Launch} {e : Env} {s : State} {m : MethodId} {args : Array Value} {below : List Frame} {meth : Method} {c : Code} {g : GT} {h0 : AH} {v1 : Option Nat} {v4 : Int32} {K : Int32 → AH → Prop} {E : Nat → AH → Prop} (X : Cx g h0 p s m args meth c RJ7 cJ7_hashCode_3 6 (Option.some Jvm.ClassFile.FieldType.int))  : ∀ (n : Nat) {v0 : Int32} {v5 : Int32} {h : AH} {H : Heap} {locs : List Loc} {cells slots : Nat} {ls : Array Slot}, LpN2 (w_J7_hashCode_3_L8 g v1 v4 K E) n v0 v5 h → HS g s h H locs → lv_has ls 6 [(0, .int v0), (1, va_rf v1), (4, .int v4), (5, .int v5)] → W p l e (RM 1 h0) s m args below meth c H locs cells slots (MQT below g (qI K) E args s h0) (F0 m 8 ls []) := by
  have hx := X.hx
  have hb := X.hb
  intro n
  induction n with
  | zero =>
    intro v0 v5 h H locs cells slots ls hw
    exact hw.elim
  | succ n k8 =>
    intro v0 v5 h H locs cells slots ls hw hR hl
    have hw : w_J7_hashCode_3_L8 g v1 v4 K E (LpN2 (w_J7_hashCode_3_L8 g v1 v4 K E) n) v0 v5 h := hw
    unfold w_J7_hashCode_3_L8 at hw
    refine lv_iload hx hb dJ7_hashCode_3_8 (lv_at hl 3 rfl) ?_
    refine lv_iload hx hb dJ7_hashCode_3_10 (lv_at hl 2 rfl) ?_
    refine lv_icmp_ge (tgt := 31) hx hb dJ7_hashCode_3_12 (by decide) (fun c2 => ?_) (fun c2 => ?_)
    · have hw := hw.1 c2
      refine lv_iload_n hx hb dJ7_hashCode_3_31 rfl (lv_at hl 0 rfl) ?_
      exact r_iret X hR dJ7_hashCode_3_32 hw
    · have hw := hw.2 c2
      refine lv_bipush (v := 31) hx hb dJ7_hashCode_3_15 (by decide) ?_
      refine lv_iload_n hx hb dJ7_hashCode_3_17 rfl (lv_at hl 0 rfl) ?_
      refine lv_imul hx hb dJ7_hashCode_3_18 ?_
      refine r_aload_n X dJ7_hashCode_3_19 rfl (lv_at hl 1 rfl) ?_
      refine lv_iload hx hb dJ7_hashCode_3_20 (lv_at hl 3 rfl) ?_
      exact hw.elim
theorem c_J7_hashCode_3 (l : Launch) (g : GT) (v0 : Int32) (v1 : Option Nat) (v2 : Int32) (v3 : Int32) : CT qI l yJ7_hashCode_3 (ws_ yJ7_hashCode_3 cJ7_hashCode_3 6 (Option.some Jvm.ClassFile.FieldType.int)) 1 g [.int v0, va_rf v1, .int v2, .int v3] (fun K E h => w_J7_hashCode_3 g v0 v1 v2 v3 K E h) := by
  refine CT_of (lv := [(0, .int v0), (1, va_rf v1), (2, .int v2), (3, .int v3)]) (by decide +kernel) (by simp [lg_sl, cat_rf, cat_int, cat_long]) (by simp [lv_args, cat_rf, cat_int, cat_long]) (fun h0 K E p e s m args below meth c H locs cells slots ls X hxt hmn hw hR hl => ?_)
  have hx := X.hx
  have hb := X.hb
  unfold w_J7_hashCode_3 at hw
  refine lv_iload_n hx hb dJ7_hashCode_3_0 rfl (lv_at hl 2 rfl) ?_
  refine lv_iload_n hx hb dJ7_hashCode_3_1 rfl (lv_at hl 3 rfl) ?_
  refine lv_iadd hx hb dJ7_hashCode_3_2 ?_
  refine r_nmI hw (fun x1 hw => ?_)
  refine lv_istore (i := 4) (lv' := [(4, .int x1), (0, .int v0), (1, va_rf v1), (2, .int v2), (3, .int v3)]) hx hb dJ7_hashCode_3_3 hl (by decide) rfl (fun ls hl => ?_)
  refine lv_iload_n hx hb dJ7_hashCode_3_5 rfl (lv_at hl 3 rfl) ?_
  refine lv_istore (i := 5) (lv' := [(5, .int v2), (4, .int x1), (0, .int v0), (1, va_rf v1), (2, .int v2), (3, .int v3)]) hx hb dJ7_hashCode_3_6 hl (by decide) rfl (fun ls hl => ?_)
  obtain ⟨n, hw⟩ := hw
  exact t_J7_hashCode_3_L8 X  n hw hR (lv_sub hl [2, 3, 1, 0] rfl)
theorem t_J7_hashCode_4_L8 {p : Program} {l : Launch} {e : Env} {s : State} {m : MethodId} {args : Array Value} {below : List Frame} {meth : Method} {c : Code} {g : GT} {h0 : AH} {v1 : Option Nat} {v4 : Int32} {K : Int32 → AH → Prop} {E : Nat → AH → Prop} (X : Cx g h0 p s m args meth c RJ7 cJ7_hashCode_4 6 (Option.some Jvm.ClassFile.FieldType.int))  : ∀ (n : Nat) {v0 : Int32} {v5 : Int32} {h : AH} {H : Heap} {locs : List Loc} {cells slots : Nat} {ls : Array Slot}, LpN2 (w_J7_hashCode_4_L8 g v1 v4 K E) n v0 v5 h → HS g s h H locs → lv_has ls 6 [(0, .int v0), (1, va_rf v1), (4, .int v4), (5, .int v5)] → W p l e (RM 1 h0) s m args below meth c H locs cells slots (MQT below g (qI K) E args s h0) (F0 m 8 ls []) := by
  have hx := X.hx
  have hb := X.hb
  intro n
  induction n with
  | zero =>
    intro v0 v5 h H locs cells slots ls hw
    exact hw.elim
  | succ n k8 =>
    intro v0 v5 h H locs cells slots ls hw hR hl
    have hw : w_J7_hashCode_4_L8 g v1 v4 K E (LpN2 (w_J7_hashCode_4_L8 g v1 v4 K E) n) v0 v5 h := hw
    unfold w_J7_hashCode_4_L8 at hw
    refine lv_iload hx hb dJ7_hashCode_4_8 (lv_at hl 3 rfl) ?_
    refine lv_iload hx hb dJ7_hashCode_4_10 (lv_at hl 2 rfl) ?_
    refine lv_icmp_ge (tgt := 31) hx hb dJ7_hashCode_4_12 (by decide) (fun c2 => ?_) (fun c2 => ?_)
    · have hw := hw.1 c2
      refine lv_iload_n hx hb dJ7_hashCode_4_31 rfl (lv_at hl 0 rfl) ?_
      exact r_iret X hR dJ7_hashCode_4_32 hw
    · have hw := hw.2 c2
      refine lv_bipush (v := 31) hx hb dJ7_hashCode_4_15 (by decide) ?_
      refine lv_iload_n hx hb dJ7_hashCode_4_17 rfl (lv_at hl 0 rfl) ?_
      refine lv_imul hx hb dJ7_hashCode_4_18 ?_
      refine r_aload_n X dJ7_hashCode_4_19 rfl (lv_at hl 1 rfl) ?_
      refine lv_iload hx hb dJ7_hashCode_4_20 (lv_at hl 3 rfl) ?_
      refine r_iald X hR dJ7_hashCode_4_22 hw (fun x3 hw => ?_)
      refine lv_iadd hx hb dJ7_hashCode_4_23 ?_
      refine r_nmI hw (fun x4 hw => ?_)
      refine lv_istore_n (i := 0) (lv' := [(0, .int x4), (1, va_rf v1), (4, .int v4), (5, .int v5)]) hx hb dJ7_hashCode_4_24 rfl hl (by decide) rfl (fun ls hl => ?_)
      refine r_iinc X (k := 3) (v := (v5 + 1)) (lv' := fun x5 => [(5, .int x5), (0, .int x4), (1, va_rf v1), (4, .int v4)]) dJ7_hashCode_4_25 hl rfl rfl (by decide) hw (fun _ => rfl) (fun x5 hw ls hl => ?_)
      refine lv_goto (tgt := 8) hx hb dJ7_hashCode_4_28 (by decide) ?_
      exact k8 hw hR (lv_sub hl [1, 2, 3, 0] rfl)
theorem c_J7_hashCode_4 (l : Launch) (g : GT) (v0 : Int32) (v1 : Option Nat) (v2 : Int32) (v3 : Int32) : CT qI l yJ7_hashCode_4 (ws_ yJ7_hashCode_4 cJ7_hashCode_4 6 (Option.some Jvm.ClassFile.FieldType.int)) 1 g [.int v0, va_rf v1, .int v2, .int v3] (fun K E h => w_J7_hashCode_4 g v0 v1 v2 v3 K E h) := by
  refine CT_of (lv := [(0, .int v0), (1, va_rf v1), (2, .int v2), (3, .int v3)]) (by decide +kernel) (by simp [lg_sl, cat_rf, cat_int, cat_long]) (by simp [lv_args, cat_rf, cat_int, cat_long]) (fun h0 K E p e s m args below meth c H locs cells slots ls X hxt hmn hw hR hl => ?_)
  have hx := X.hx
  have hb := X.hb
  unfold w_J7_hashCode_4 at hw
  refine lv_iload_n hx hb dJ7_hashCode_4_0 rfl (lv_at hl 2 rfl) ?_
  refine lv_iload_n hx hb dJ7_hashCode_4_1 rfl (lv_at hl 3 rfl) ?_
  refine lv_iadd hx hb dJ7_hashCode_4_2 ?_
  refine r_nmI hw (fun x1 hw => ?_)
  refine lv_istore (i := 4) (lv' := [(4, .int x1), (0, .int v0), (1, va_rf v1), (2, .int v2), (3, .int v3)]) hx hb dJ7_hashCode_4_3 hl (by decide) rfl (fun ls hl => ?_)
  refine lv_iload_n hx hb dJ7_hashCode_4_5 rfl (lv_at hl 3 rfl) ?_
  refine lv_istore (i := 5) (lv' := [(5, .int v2), (4, .int x1), (0, .int v0), (1, va_rf v1), (2, .int v2), (3, .int v3)]) hx hb dJ7_hashCode_4_6 hl (by decide) rfl (fun ls hl => ?_)
  obtain ⟨n, hw⟩ := hw
  exact t_J7_hashCode_4_L8 X  n hw hR (lv_sub hl [2, 3, 1, 0] rfl)
theorem t_J7_vectorizedHashCode_J129 {p : Program} {l : Launch} {e : Env} {s : State} {m : MethodId} {args : Array Value} {below : List Frame} {meth : Method} {c : Code} {g : GT} {h0 : AH} {v4 : Int32} {K : Int32 → AH → Prop} {E : Nat → AH → Prop} {h : AH} {H : Heap} {locs : List Loc} {cells slots : Nat} {ls : Array Slot} (X : Cx g h0 p s m args meth c RJ7 cJ7_vectorizedHashCode 5 (Option.some Jvm.ClassFile.FieldType.int))  (hw : w_J7_vectorizedHashCode_J129 g v4 K E h) (hR : HS g s h H locs) (hl : lv_has ls 5 [(4, .int v4)]) : W p l e (RM 2 h0) s m args below meth c H locs cells slots (MQT below g (qI K) E args s h0) (F0 m 129 ls []) := by
  have hx := X.hx
  have hb := X.hb
  unfold w_J7_vectorizedHashCode_J129 at hw
  exact hw.elim
theorem c_J7_vectorizedHashCode (l : Launch) (g : GT) (v0 : Option Nat) (v1 : Int32) (v2 : Int32) (v3 : Int32) (v4 : Int32) : CT qI l yJ7_vectorizedHashCode (ws_ yJ7_vectorizedHashCode cJ7_vectorizedHashCode 5 (Option.some Jvm.ClassFile.FieldType.int)) 2 g [va_rf v0, .int v1, .int v2, .int v3, .int v4] (fun K E h => w_J7_vectorizedHashCode g v0 v1 v2 v3 v4 K E h) := by
  refine CT_of (lv := [(0, va_rf v0), (1, .int v1), (2, .int v2), (3, .int v3), (4, .int v4)]) (by decide +kernel) (by simp [lg_sl, cat_rf, cat_int, cat_long]) (by simp [lv_args, cat_rf, cat_int, cat_long]) (fun h0 K E p e s m args below meth c H locs cells slots ls X hxt hmn hw hR hl => ?_)
  have hx := X.hx
  have hb := X.hb
  unfold w_J7_vectorizedHashCode at hw
  refine lv_iload hx hb dJ7_vectorizedHashCode_0 (lv_at hl 4 rfl) ?_
  by_cases c1_0 : v4 = 4
  · have hw := swT_at hw 0 rfl c1_0
    rw [c1_0]
    refine lv_tableIn (tgt := 44) hx hb dJ7_vectorizedHashCode_2 (by decide) (by decide) rfl (by decide) ?_
    refine lv_iload_n hx hb dJ7_vectorizedHashCode_44 rfl (lv_at hl 3 rfl) ?_
    refine r_aload_n X dJ7_vectorizedHashCode_45 rfl (lv_at hl 0 rfl) ?_
    refine r_chkB X hR q666 dJ7_vectorizedHashCode_46 hw (fun hw => ?_)
    refine lv_iload_n hx hb dJ7_vectorizedHashCode_49 rfl (lv_at hl 1 rfl) ?_
    refine lv_iload_n hx hb dJ7_vectorizedHashCode_50 rfl (lv_at hl 2 rfl) ?_
    refine r_callI X hR (c_S X hR hl.1 (c_J7_signedHashCode l g v3 v0 v1 v2) (lw_S q667 q668 q131 q669) mh_J7_signedHashCode rfl (by decide) (by decide) rfl (cat4 (Nat.le_of_ble_eq_true rfl)) dJ7_vectorizedHashCode_51 hw) (fun x2 h H locs cells slots hR hw => ?_)
    refine lv_goto (tgt := 157) hx hb dJ7_vectorizedHashCode_54 (by decide) ?_
    exact r_iret X hR dJ7_vectorizedHashCode_157 hw
  by_cases c1_1 : v4 = 5
  · have hw := swT_at hw 1 rfl c1_1
    rw [c1_1]
    refine lv_tableIn (tgt := 57) hx hb dJ7_vectorizedHashCode_2 (by decide) (by decide) rfl (by decide) ?_
    refine r_aload_n X dJ7_vectorizedHashCode_57 rfl (lv_at hl 0 rfl) ?_
    exact hw.elim
  by_cases c1_2 : v4 = 6
  · have hw := swT_at hw 2 rfl c1_2
    rw [c1_2]
    refine lv_tableIn (tgt := 129) hx hb dJ7_vectorizedHashCode_2 (by decide) (by decide) rfl (by decide) ?_
    exact t_J7_vectorizedHashCode_J129 X  hw hR (lv_sub hl [4] rfl)
  by_cases c1_3 : v4 = 7
  · have hw := swT_at hw 3 rfl c1_3
    rw [c1_3]
    refine lv_tableIn (tgt := 129) hx hb dJ7_vectorizedHashCode_2 (by decide) (by decide) rfl (by decide) ?_
    exact t_J7_vectorizedHashCode_J129 X  hw hR (lv_sub hl [4] rfl)
  by_cases c1_4 : v4 = 8
  · have hw := swT_at hw 4 rfl c1_4
    rw [c1_4]
    refine lv_tableIn (tgt := 90) hx hb dJ7_vectorizedHashCode_2 (by decide) (by decide) rfl (by decide) ?_
    refine lv_iload_n hx hb dJ7_vectorizedHashCode_90 rfl (lv_at hl 3 rfl) ?_
    refine r_aload_n X dJ7_vectorizedHashCode_91 rfl (lv_at hl 0 rfl) ?_
    refine r_chkB X hR q666 dJ7_vectorizedHashCode_92 hw (fun hw => ?_)
    refine lv_iload_n hx hb dJ7_vectorizedHashCode_95 rfl (lv_at hl 1 rfl) ?_
    refine lv_iload_n hx hb dJ7_vectorizedHashCode_96 rfl (lv_at hl 2 rfl) ?_
    refine r_callI X hR (c_S X hR hl.1 (c_J7_hashCode_2 l g v3 v0 v1 v2) (lw_S q690 q691 q131 q692) mh_J7_hashCode_2 rfl (by decide) (by decide) rfl (cat4 (Nat.le_of_ble_eq_true rfl)) dJ7_vectorizedHashCode_97 hw) (fun x3 h H locs cells slots hR hw => ?_)
    refine lv_goto (tgt := 157) hx hb dJ7_vectorizedHashCode_100 (by decide) ?_
    exact r_iret X hR dJ7_vectorizedHashCode_157 hw
  by_cases c1_5 : v4 = 9
  · have hw := swT_at hw 5 rfl c1_5
    rw [c1_5]
    refine lv_tableIn (tgt := 103) hx hb dJ7_vectorizedHashCode_2 (by decide) (by decide) rfl (by decide) ?_
    refine lv_iload_n hx hb dJ7_vectorizedHashCode_103 rfl (lv_at hl 3 rfl) ?_
    refine r_aload_n X dJ7_vectorizedHashCode_104 rfl (lv_at hl 0 rfl) ?_
    exact hw.elim
  by_cases c1_6 : v4 = 10
  · have hw := swT_at hw 6 rfl c1_6
    rw [c1_6]
    refine lv_tableIn (tgt := 116) hx hb dJ7_vectorizedHashCode_2 (by decide) (by decide) rfl (by decide) ?_
    refine lv_iload_n hx hb dJ7_vectorizedHashCode_116 rfl (lv_at hl 3 rfl) ?_
    refine r_aload_n X dJ7_vectorizedHashCode_117 rfl (lv_at hl 0 rfl) ?_
    exact hw.elim
  have hw := hw.2 (List.forall_mem_cons.mpr ⟨c1_0, (List.forall_mem_cons.mpr ⟨c1_1, (List.forall_mem_cons.mpr ⟨c1_2, (List.forall_mem_cons.mpr ⟨c1_3, (List.forall_mem_cons.mpr ⟨c1_4, (List.forall_mem_cons.mpr ⟨c1_5, (List.forall_mem_cons.mpr ⟨c1_6, (fun _ h => absurd h List.not_mem_nil)⟩)⟩)⟩)⟩)⟩)⟩)⟩)
  refine lv_tableOut (tgt := 129) hx hb dJ7_vectorizedHashCode_2 (sw_out (x := v4) (lo := 4) (n := 7) (by decide) (lt_s (lt_s (lt_s (lt_s (lt_s (lt_s (lt_s lt_0 c1_0) c1_1) c1_2) c1_3) c1_4) c1_5) c1_6)) (by decide) ?_
  exact t_J7_vectorizedHashCode_J129 X  hw hR (lv_sub hl [4] rfl)
theorem c_J6_hashCode (l : Launch) (g : GT) (v0 : Option Nat) : CT qI l yJ6_hashCode (ws_ yJ6_hashCode cJ6_hashCode 1 (Option.some Jvm.ClassFile.FieldType.int)) 3 g [va_rf v0] (fun K E h => w_J6_hashCode g v0 K E h) := by
  refine CT_of (lv := [(0, va_rf v0)]) (by decide +kernel) (by simp [lg_sl, cat_rf, cat_int, cat_long]) (by simp [lv_args, cat_rf, cat_int, cat_long]) (fun h0 K E p e s m args below meth c H locs cells slots ls X hxt hmn hw hR hl => ?_)
  have hx := X.hx
  have hb := X.hb
  unfold w_J6_hashCode at hw
  refine r_aload_n X dJ6_hashCode_0 rfl (lv_at hl 0 rfl) ?_
  refine r_alen X hR dJ6_hashCode_1 hw (fun x1 hw => ?_)
  by_cases c2_0 : x1 = 0
  · have hw := swT_at hw 0 rfl c2_0
    rw [c2_0]
    refine lv_lookup (tgt := 28) (off := 26) hx hb dJ6_hashCode_2 (by decide) (by decide) (by decide) ?_
    refine lv_iconst (v := 0) hx hb dJ6_hashCode_28 (by decide) ?_
    refine lv_goto (tgt := 51) hx hb dJ6_hashCode_29 (by decide) ?_
    exact r_iret X hR dJ6_hashCode_51 hw
  by_cases c2_1 : x1 = 1
  · have hw := swT_at hw 1 rfl c2_1
    rw [c2_1]
    refine lv_lookup (tgt := 32) (off := 30) hx hb dJ6_hashCode_2 (by decide) (by decide) (by decide) ?_
    refine r_aload_n X dJ6_hashCode_32 rfl (lv_at hl 0 rfl) ?_
    refine lv_iconst (v := 0) hx hb dJ6_hashCode_33 (by decide) ?_
    refine r_bald X hR dJ6_hashCode_34 hw (fun x3 hw => ?_)
    refine lv_sipush (v := 255) hx hb dJ6_hashCode_35 (by decide) ?_
    refine lv_iand hx hb dJ6_hashCode_38 ?_
    refine lv_goto (tgt := 51) hx hb dJ6_hashCode_39 (by decide) ?_
    exact r_iret X hR dJ6_hashCode_51 hw
  have hw := hw.2 (List.forall_mem_cons.mpr ⟨c2_0, (List.forall_mem_cons.mpr ⟨c2_1, (fun _ h => absurd h List.not_mem_nil)⟩)⟩)
  refine lv_lookup (tgt := 42) (off := 40) hx hb dJ6_hashCode_2 (by decide) (lk_out (List.forall_mem_cons.mpr ⟨c2_0, (List.forall_mem_cons.mpr ⟨c2_1, (fun _ h => absurd h List.not_mem_nil)⟩)⟩)) (by decide) ?_
  refine r_aload_n X dJ6_hashCode_42 rfl (lv_at hl 0 rfl) ?_
  refine lv_iconst (v := 0) hx hb dJ6_hashCode_43 (by decide) ?_
  refine r_aload_n X dJ6_hashCode_44 rfl (lv_at hl 0 rfl) ?_
  refine r_alen X hR dJ6_hashCode_45 hw (fun x4 hw => ?_)
  refine lv_iconst (v := 0) hx hb dJ6_hashCode_46 (by decide) ?_
  refine lv_iconst (v := 4) hx hb dJ6_hashCode_47 (by decide) ?_
  refine r_callI X hR (c_S X hR hl.1 (c_J7_vectorizedHashCode l g v0 0 x4 0 4) (lw_S q663 q664 q131 q665) mh_J7_vectorizedHashCode rfl (by decide) (by decide) rfl (cat4 (Nat.le_of_ble_eq_true rfl)) dJ6_hashCode_48 hw) (fun x5 h H locs cells slots hR hw => ?_)
  exact r_iret X hR dJ6_hashCode_51 hw
theorem c_J5_hashCode (l : Launch) (g : GT) (v0 : Option Nat) : CT qI l yJ5_hashCode (ws_ yJ5_hashCode cJ5_hashCode 1 (Option.some Jvm.ClassFile.FieldType.int)) 3 g [va_rf v0] (fun K E h => w_J5_hashCode g v0 K E h) := by
  refine CT_of (lv := [(0, va_rf v0)]) (by decide +kernel) (by simp [lg_sl, cat_rf, cat_int, cat_long]) (by simp [lv_args, cat_rf, cat_int, cat_long]) (fun h0 K E p e s m args below meth c H locs cells slots ls X hxt hmn hw hR hl => ?_)
  have hx := X.hx
  have hb := X.hb
  unfold w_J5_hashCode at hw
  refine r_aload_n X dJ5_hashCode_0 rfl (lv_at hl 0 rfl) ?_
  refine r_alen X hR dJ5_hashCode_1 hw (fun x1 hw => ?_)
  by_cases c2_0 : x1 = 0
  · have hw := swT_at hw 0 rfl c2_0
    rw [c2_0]
    refine lv_lookup (tgt := 28) (off := 26) hx hb dJ5_hashCode_2 (by decide) (by decide) (by decide) ?_
    refine lv_iconst (v := 0) hx hb dJ5_hashCode_28 (by decide) ?_
    refine lv_goto (tgt := 51) hx hb dJ5_hashCode_29 (by decide) ?_
    exact r_iret X hR dJ5_hashCode_51 hw
  by_cases c2_1 : x1 = 2
  · have hw := swT_at hw 1 rfl c2_1
    rw [c2_1]
    refine lv_lookup (tgt := 32) (off := 30) hx hb dJ5_hashCode_2 (by decide) (by decide) (by decide) ?_
    refine r_aload_n X dJ5_hashCode_32 rfl (lv_at hl 0 rfl) ?_
    refine lv_iconst (v := 0) hx hb dJ5_hashCode_33 (by decide) ?_
    refine r_callI X hR (c_S X hR hl.1 (c_J5_getChar l g v0 0) (lw_S q609 q610 q129 q611) mh_J5_getChar rfl (by decide) (by decide) rfl (cat4 (Nat.le_of_ble_eq_true rfl)) dJ5_hashCode_34 hw) (fun x3 h H locs cells slots hR hw => ?_)
    refine lv_goto (tgt := 51) hx hb dJ5_hashCode_37 (by decide) ?_
    exact r_iret X hR dJ5_hashCode_51 hw
  have hw := hw.2 (List.forall_mem_cons.mpr ⟨c2_0, (List.forall_mem_cons.mpr ⟨c2_1, (fun _ h => absurd h List.not_mem_nil)⟩)⟩)
  refine lv_lookup (tgt := 40) (off := 38) hx hb dJ5_hashCode_2 (by decide) (lk_out (List.forall_mem_cons.mpr ⟨c2_0, (List.forall_mem_cons.mpr ⟨c2_1, (fun _ h => absurd h List.not_mem_nil)⟩)⟩)) (by decide) ?_
  refine r_aload_n X dJ5_hashCode_40 rfl (lv_at hl 0 rfl) ?_
  refine lv_iconst (v := 0) hx hb dJ5_hashCode_41 (by decide) ?_
  refine r_aload_n X dJ5_hashCode_42 rfl (lv_at hl 0 rfl) ?_
  refine r_alen X hR dJ5_hashCode_43 hw (fun x4 hw => ?_)
  refine lv_iconst (v := 1) hx hb dJ5_hashCode_44 (by decide) ?_
  refine lv_ishr hx hb dJ5_hashCode_45 ?_
  refine lv_iconst (v := 0) hx hb dJ5_hashCode_46 (by decide) ?_
  refine lv_iconst (v := 5) hx hb dJ5_hashCode_47 (by decide) ?_
  refine r_callI X hR (c_S X hR hl.1 (c_J7_vectorizedHashCode l g v0 0 (x4 >>> (1 &&& 31)) 0 5) (lw_S q704 q664 q131 q665) mh_J7_vectorizedHashCode rfl (by decide) (by decide) rfl (cat4 (Nat.le_of_ble_eq_true rfl)) dJ5_hashCode_48 hw) (fun x5 h H locs cells slots hR hw => ?_)
  exact r_iret X hR dJ5_hashCode_51 hw
theorem t_J3_hashCode_J40 {p : Program} {l : Launch} {e : Env} {s : State} {m : MethodId} {args : Array Value} {below : List Frame} {meth : Method} {c : Code} {g : GT} {h0 : AH} {v0 : Option Nat} {s0 : Int32} {K : Int32 → AH → Prop} {E : Nat → AH → Prop} {h : AH} {H : Heap} {locs : List Loc} {cells slots : Nat} {ls : Array Slot} (X : Cx g h0 p s m args meth c RJ3 cJ3_hashCode 2 (Option.some Jvm.ClassFile.FieldType.int))  (hw : w_J3_hashCode_J40 g v0 s0 K E h) (hR : HS g s h H locs) (hl : lv_has ls 2 [(0, va_rf v0)]) : W p l e (RM 4 h0) s m args below meth c H locs cells slots (MQT below g (qI K) E args s h0) (F0 m 40 ls [.int s0]) := by
  have hx := X.hx
  have hb := X.hb
  unfold w_J3_hashCode_J40 at hw
  refine lv_istore_n (i := 1) (lv' := [(1, .int s0), (0, va_rf v0)]) hx hb dJ3_hashCode_40 rfl hl (by decide) (by simp [cat_rf, cat_int, cat_long]) (fun ls hl => ?_)
  refine lv_iload_n hx hb dJ3_hashCode_41 rfl (lv_at hl 0 rfl) ?_
  refine lv_if_ne (tgt := 53) hx hb dJ3_hashCode_42 (by decide) (fun c9 => ?_) (fun c9 => ?_)
  · have hw := hw.1 c9
    refine r_aload_n X dJ3_hashCode_53 rfl (lv_at hl 1 rfl) ?_
    refine lv_iload_n hx hb dJ3_hashCode_54 rfl (lv_at hl 0 rfl) ?_
    refine r_put X hR fp_J3_19 (Or.inl fn_J3_19) (nf_int _) dJ3_hashCode_55 hw (fun H locs h hR hw => ?_)
    refine lv_iload_n hx hb dJ3_hashCode_58 rfl (lv_at hl 0 rfl) ?_
    exact r_iret X hR dJ3_hashCode_59 hw
  · have hw := hw.2 c9
    refine r_aload_n X dJ3_hashCode_45 rfl (lv_at hl 1 rfl) ?_
    refine lv_iconst (v := 1) hx hb dJ3_hashCode_46 (by decide) ?_
    refine r_put X hR fp_J3_23 (Or.inl fn_J3_23) ⟨rfl, rfl⟩ dJ3_hashCode_47 hw (fun H locs h hR hw => ?_)
    refine lv_goto (tgt := 58) hx hb dJ3_hashCode_50 (by decide) ?_
    refine lv_iload_n hx hb dJ3_hashCode_58 rfl (lv_at hl 0 rfl) ?_
    exact r_iret X hR dJ3_hashCode_59 hw
theorem c_J3_hashCode (l : Launch) (g : GT) (v0 : Option Nat) : CT qI l yJ3_hashCode (ws_ yJ3_hashCode cJ3_hashCode 2 (Option.some Jvm.ClassFile.FieldType.int)) 4 g [va_rf v0] (fun K E h => w_J3_hashCode g v0 K E h) := by
  refine CT_of (lv := [(0, va_rf v0)]) (by decide +kernel) (by simp [lg_sl, cat_rf, cat_int, cat_long]) (by simp [lv_args, cat_rf, cat_int, cat_long]) (fun h0 K E p e s m args below meth c H locs cells slots ls X hxt hmn hw hR hl => ?_)
  have hx := X.hx
  have hb := X.hb
  unfold w_J3_hashCode at hw
  refine r_aload_n X dJ3_hashCode_0 rfl (lv_at hl 0 rfl) ?_
  refine r_gI X hR fk_J3_19 dJ3_hashCode_1 hw (fun x1 hw => ?_)
  refine lv_istore_n (i := 1) (lv' := [(1, .int x1), (0, va_rf v0)]) hx hb dJ3_hashCode_4 rfl hl (by decide) (by simp [cat_rf, cat_int, cat_long]) (fun ls hl => ?_)
  refine lv_iload_n hx hb dJ3_hashCode_5 rfl (lv_at hl 0 rfl) ?_
  refine lv_if_ne (tgt := 58) hx hb dJ3_hashCode_6 (by decide) (fun c2 => ?_) (fun c2 => ?_)
  · have hw := hw.1 c2
    refine lv_iload_n hx hb dJ3_hashCode_58 rfl (lv_at hl 0 rfl) ?_
    exact r_iret X hR dJ3_hashCode_59 hw
  · have hw := hw.2 c2
    refine r_aload_n X dJ3_hashCode_9 rfl (lv_at hl 1 rfl) ?_
    refine r_gI X hR fk_J3_23 dJ3_hashCode_10 hw (fun x3 hw => ?_)
    refine lv_if_ne (tgt := 58) hx hb dJ3_hashCode_13 (by decide) (fun c4 => ?_) (fun c4 => ?_)
    · have hw := hw.1 c4
      refine lv_iload_n hx hb dJ3_hashCode_58 rfl (lv_at hl 0 rfl) ?_
      exact r_iret X hR dJ3_hashCode_59 hw
    · have hw := hw.2 c4
      refine r_aload_n X dJ3_hashCode_16 rfl (lv_at hl 1 rfl) ?_
      refine r_callI X hR (c_V (ci := 0) (q := (RJ3, TJ3, 4)) X hR hl.1 (c_J3_isLatin1 l g v0) (lw_V q656 q657 q658 q127 q659) rfl rfl mh_J3_isLatin1 rfl (by decide) (by decide) rfl (cat4 (Nat.le_of_ble_eq_true rfl)) dJ3_hashCode_17 hw) (fun x5 h H locs cells slots hR hw => ?_)
      refine lv_if_eq (tgt := 33) hx hb dJ3_hashCode_20 (by decide) (fun c6 => ?_) (fun c6 => ?_)
      · have hw := hw.1 c6
        refine r_aload_n X dJ3_hashCode_33 rfl (lv_at hl 1 rfl) ?_
        refine r_gR X hR fk_J3_9 dJ3_hashCode_34 hw (fun x7 hw => ?_)
        refine r_callI X hR (c_S X hR hl.1 (c_J5_hashCode l g x7) (lw_S q701 q702 q129 q703) mh_J5_hashCode rfl (by decide) (by decide) rfl (cat4 (Nat.le_of_ble_eq_true rfl)) dJ3_hashCode_37 hw) (fun x8 h H locs cells slots hR hw => ?_)
        exact t_J3_hashCode_J40 X  hw hR (lv_sub hl [1] rfl)
      · have hw := hw.2 c6
        refine r_aload_n X dJ3_hashCode_23 rfl (lv_at hl 1 rfl) ?_
        refine r_gR X hR fk_J3_9 dJ3_hashCode_24 hw (fun x10 hw => ?_)
        refine r_callI X hR (c_S X hR hl.1 (c_J6_hashCode l g x10) (lw_S q660 q661 q130 q662) mh_J6_hashCode rfl (by decide) (by decide) rfl (cat4 (Nat.le_of_ble_eq_true rfl)) dJ3_hashCode_27 hw) (fun x11 h H locs cells slots hR hw => ?_)
        refine lv_goto (tgt := 40) hx hb dJ3_hashCode_30 (by decide) ?_
        exact t_J3_hashCode_J40 X  hw hR (lv_sub hl [1] rfl)
theorem t_J6_equals_L9 {p : Program} {l : Launch} {e : Env} {s : State} {m : MethodId} {args : Array Value} {below : List Frame} {meth : Method} {c : Code} {g : GT} {h0 : AH} {v0 : Option Nat} {v1 : Option Nat} {K : Int32 → AH → Prop} {E : Nat → AH → Prop} (X : Cx g h0 p s m args meth c RJ6 cJ6_equals 3 (Option.some Jvm.ClassFile.FieldType.boolean))  : ∀ (n : Nat) {v2 : Int32} {h : AH} {H : Heap} {locs : List Loc} {cells slots : Nat} {ls : Array Slot}, LpN1 (w_J6_equals_L9 g v0 v1 K E) n v2 h → HS g s h H locs → lv_has ls 3 [(0, va_rf v0), (1, va_rf v1), (2, .int v2)] → W p l e (RM 1 h0) s m args below meth c H locs cells slots (MQT below g (qI K) E args s h0) (F0 m 9 ls []) := by
  have hx := X.hx
  have hb := X.hb
  intro n
  induction n with
  | zero =>
    intro v2 h H locs cells slots ls hw
    exact hw.elim
  | succ n k9 =>
    intro v2 h H locs cells slots ls hw hR hl
    have hw : w_J6_equals_L9 g v0 v1 K E (LpN1 (w_J6_equals_L9 g v0 v1 K E) n) v2 h := hw
    unfold w_J6_equals_L9 at hw
    refine lv_iload_n hx hb dJ6_equals_9 rfl (lv_at hl 2 rfl) ?_
    refine r_aload_n X dJ6_equals_10 rfl (lv_at hl 0 rfl) ?_
    refine r_alen X hR dJ6_equals_11 hw (fun x4 hw => ?_)
    refine lv_icmp_ge (tgt := 32) hx hb dJ6_equals_12 (by decide) (fun c5 => ?_) (fun c5 => ?_)
    · have hw := hw.1 c5
      refine lv_iconst (v := 1) hx hb dJ6_equals_32 (by decide) ?_
      exact r_zret X hR dJ6_equals_33 hw
    · have hw := hw.2 c5
      refine r_aload_n X dJ6_equals_15 rfl (lv_at hl 0 rfl) ?_
      refine lv_iload_n hx hb dJ6_equals_16 rfl (lv_at hl 2 rfl) ?_
      refine r_bald X hR dJ6_equals_17 hw (fun x6 hw => ?_)
      refine r_aload_n X dJ6_equals_18 rfl (lv_at hl 1 rfl) ?_
      refine lv_iload_n hx hb dJ6_equals_19 rfl (lv_at hl 2 rfl) ?_
      refine r_bald X hR dJ6_equals_20 hw (fun x7 hw => ?_)
      refine lv_icmp_eq (tgt := 26) hx hb dJ6_equals_21 (by decide) (fun c8 => ?_) (fun c8 => ?_)
      · have hw := hw.1 c8
        refine r_iinc X (k := 2) (v := (v2 + 1)) (lv' := fun x9 => [(2, .int x9), (0, va_rf v0), (1, va_rf v1)]) dJ6_equals_26 hl rfl rfl (by decide) hw (fun _ => by simp [cat_rf, cat_int, cat_long]) (fun x9 hw ls hl => ?_)
        refine lv_goto (tgt := 9) hx hb dJ6_equals_29 (by decide) ?_
        exact k9 hw hR (lv_sub hl [1, 2, 0] rfl)
      · have hw := hw.2 c8
        refine lv_iconst (v := 0) hx hb dJ6_equals_24 (by decide) ?_
        exact r_zret X hR dJ6_equals_25 hw
theorem c_J6_equals (l : Launch) (g : GT) (v0 : Option Nat) (v1 : Option Nat) : CT qI l yJ6_equals (ws_ yJ6_equals cJ6_equals 3 (Option.some Jvm.ClassFile.FieldType.boolean)) 1 g [va_rf v0, va_rf v1] (fun K E h => w_J6_equals g v0 v1 K E h) := by
  refine CT_of (lv := [(0, va_rf v0), (1, va_rf v1)]) (by decide +kernel) (by simp [lg_sl, cat_rf, cat_int, cat_long]) (by simp [lv_args, cat_rf, cat_int, cat_long]) (fun h0 K E p e s m args below meth c H locs cells slots ls X hxt hmn hw hR hl => ?_)
  have hx := X.hx
  have hb := X.hb
  unfold w_J6_equals at hw
  refine r_aload_n X dJ6_equals_0 rfl (lv_at hl 0 rfl) ?_
  refine r_alen X hR dJ6_equals_1 hw (fun x1 hw => ?_)
  refine r_aload_n X dJ6_equals_2 rfl (lv_at hl 1 rfl) ?_
  refine r_alen X hR dJ6_equals_3 hw (fun x2 hw => ?_)
  refine lv_icmp_ne (tgt := 34) hx hb dJ6_equals_4 (by decide) (fun c3 => ?_) (fun c3 => ?_)
  · have hw := hw.1 c3
    refine lv_iconst (v := 0) hx hb dJ6_equals_34 (by decide) ?_
    exact r_zret X hR dJ6_equals_35 hw
  · have hw := hw.2 c3
    refine lv_iconst (v := 0) hx hb dJ6_equals_7 (by decide) ?_
    refine lv_istore_n (i := 2) (lv' := [(2, .int 0), (0, va_rf v0), (1, va_rf v1)]) hx hb dJ6_equals_8 rfl hl (by decide) (by simp [cat_rf, cat_int, cat_long]) (fun ls hl => ?_)
    obtain ⟨n, hw⟩ := hw
    exact t_J6_equals_L9 X  n hw hR (lv_sub hl [1, 2, 0] rfl)
theorem t_J3_equals_J36 {p : Program} {l : Launch} {e : Env} {s : State} {m : MethodId} {args : Array Value} {below : List Frame} {meth : Method} {c : Code} {g : GT} {h0 : AH} {v0 : Option Nat} {v2 : Option Nat} {K : Int32 → AH → Prop} {E : Nat → AH → Prop} {h : AH} {H : Heap} {locs : List Loc} {cells slots : Nat} {ls : Array Slot} (X : Cx g h0 p s m args meth c RJ3 cJ3_equals 3 (Option.some Jvm.ClassFile.FieldType.boolean))  (hw : w_J3_equals_J36 g v0 v2 K E h) (hR : HS g s h H locs) (hl : lv_has ls 3 [(0, va_rf v0), (2, va_rf v2)]) : W p l e (RM 2 h0) s m args below meth c H locs cells slots (MQT below g (qI K) E args s h0) (F0 m 36 ls []) := by
  have hx := X.hx
  have hb := X.hb
  unfold w_J3_equals_J36 at hw
  refine r_aload_n X dJ3_equals_36 rfl (lv_at hl 0 rfl) ?_
  refine r_gR X hR fk_J3_9 dJ3_equals_37 hw (fun x5 hw => ?_)
  refine r_aload_n X dJ3_equals_40 rfl (lv_at hl 1 rfl) ?_
  refine r_gR X hR fk_J3_9 dJ3_equals_41 hw (fun x6 hw => ?_)
  refine r_callI X hR (c_S X hR hl.1 (c_J6_equals l g x5 x6) (lw_S q711 q712 q130 q713) mh_J6_equals rfl (by decide) (by decide) rfl (cat4 (Nat.le_of_ble_eq_true rfl)) dJ3_equals_44 hw) (fun x7 h H locs cells slots hR hw => ?_)
  refine lv_if_eq (tgt := 54) hx hb dJ3_equals_47 (by decide) (fun c8 => ?_) (fun c8 => ?_)
  · have hw := hw.1 c8
    refine lv_iconst (v := 0) hx hb dJ3_equals_54 (by decide) ?_
    exact r_zret X hR dJ3_equals_55 hw
  · have hw := hw.2 c8
    refine lv_iconst (v := 1) hx hb dJ3_equals_50 (by decide) ?_
    refine lv_goto (tgt := 55) hx hb dJ3_equals_51 (by decide) ?_
    exact r_zret X hR dJ3_equals_55 hw
theorem c_J3_equals (l : Launch) (g : GT) (v0 : Option Nat) (v1 : Option Nat) : CT qI l yJ3_equals (ws_ yJ3_equals cJ3_equals 3 (Option.some Jvm.ClassFile.FieldType.boolean)) 2 g [va_rf v0, va_rf v1] (fun K E h => w_J3_equals g v0 v1 K E h) := by
  refine CT_of (lv := [(0, va_rf v0), (1, va_rf v1)]) (by decide +kernel) (by simp [lg_sl, cat_rf, cat_int, cat_long]) (by simp [lv_args, cat_rf, cat_int, cat_long]) (fun h0 K E p e s m args below meth c H locs cells slots ls X hxt hmn hw hR hl => ?_)
  have hx := X.hx
  have hb := X.hb
  unfold w_J3_equals at hw
  refine r_aload_n X dJ3_equals_0 rfl (lv_at hl 0 rfl) ?_
  refine r_aload_n X dJ3_equals_1 rfl (lv_at hl 1 rfl) ?_
  refine lv_acmp_ne (rx := v0) (ry := v1) (tgt := 7) hx hb dJ3_equals_2 (by decide) (fun c1 => ?_) (fun c1 => ?_)
  · have hw := hw.1 c1
    refine r_aload_n X dJ3_equals_7 rfl (lv_at hl 1 rfl) ?_
    refine r_inst X hR q710 (List.forall_mem_cons.mpr ⟨⟨_, rfl, Or.inl rfl⟩, (fun _ h => absurd h List.not_mem_nil)⟩) (fun _ h => absurd h List.not_mem_nil) dJ3_equals_8 hw (fun x2 hw => ?_)
    refine lv_if_eq (tgt := 54) hx hb dJ3_equals_11 (by decide) (fun c3 => ?_) (fun c3 => ?_)
    · have hw := hw.1 c3
      refine lv_iconst (v := 0) hx hb dJ3_equals_54 (by decide) ?_
      exact r_zret X hR dJ3_equals_55 hw
    · have hw := hw.2 c3
      refine r_aload_n X dJ3_equals_14 rfl (lv_at hl 1 rfl) ?_
      refine r_chk X hR q710 (List.forall_mem_cons.mpr ⟨⟨_, rfl, Or.inl rfl⟩, (fun _ h => absurd h List.not_mem_nil)⟩) dJ3_equals_15 hw (fun hw => ?_)
      refine r_astore_n (i := 2) (lv' := [(2, va_rf v1), (0, va_rf v0), (1, va_rf v1)]) X dJ3_equals_18 rfl hl (by decide) (by simp [cat_rf, cat_int, cat_long]) (fun ls hl => ?_)
      refine r_gets X hR (v := .int 1) (List.mem_of_getElem? (i := 0) rfl) q579 dJ3_equals_19 ?_
      refine lv_if_eq (tgt := 36) hx hb dJ3_equals_22 (by decide) (fun c4 => ?_) (fun c4 => ?_)
      · have hw := hw.1 c4
        exact t_J3_equals_J36 X  hw hR (lv_sub hl [1, 0] rfl)
      · have hw := hw.2 c4
        refine r_aload_n X dJ3_equals_25 rfl (lv_at hl 1 rfl) ?_
        refine r_gI X hR fk_J3_15 dJ3_equals_26 hw (fun x9 hw => ?_)
        refine r_aload_n X dJ3_equals_29 rfl (lv_at hl 0 rfl) ?_
        refine r_gI X hR fk_J3_15 dJ3_equals_30 hw (fun x10 hw => ?_)
        refine lv_icmp_ne (tgt := 54) hx hb dJ3_equals_33 (by decide) (fun c11 => ?_) (fun c11 => ?_)
        · have hw := hw.1 c11
          refine lv_iconst (v := 0) hx hb dJ3_equals_54 (by decide) ?_
          exact r_zret X hR dJ3_equals_55 hw
        · have hw := hw.2 c11
          exact t_J3_equals_J36 X  hw hR (lv_sub hl [1, 0] rfl)
  · have hw := hw.2 c1
    refine lv_iconst (v := 1) hx hb dJ3_equals_5 (by decide) ?_
    exact r_zret X hR dJ3_equals_6 hw
theorem c_X2_takes (l : Launch) (g : GT) (v0 : Option Nat) (v1 : Option Nat) : CT qI l yX2_takes (ws_ yX2_takes cX2_takes 2 (Option.some Jvm.ClassFile.FieldType.boolean)) 9 g [va_rf v0, va_rf v1] (fun K E h => w_X2_takes g v0 v1 K E h) := by
  refine CT_of (lv := [(0, va_rf v0), (1, va_rf v1)]) (by decide +kernel) (by simp [lg_sl, cat_rf, cat_int, cat_long]) (by simp [lv_args, cat_rf, cat_int, cat_long]) (fun h0 K E p e s m args below meth c H locs cells slots ls X hxt hmn hw hR hl => ?_)
  have hx := X.hx
  have hb := X.hb
  unfold w_X2_takes at hw
  refine r_aload_n X dX2_takes_0 rfl (lv_at hl 0 rfl) ?_
  refine r_gI X hR fk_X2_47 dX2_takes_1 hw (fun x1 hw => ?_)
  refine lv_iconst (v := 2) hx hb dX2_takes_4 (by decide) ?_
  refine lv_icmp_ne (tgt := 19) hx hb dX2_takes_5 (by decide) (fun c2 => ?_) (fun c2 => ?_)
  · have hw := hw.1 c2
    refine lv_iconst (v := 0) hx hb dX2_takes_19 (by decide) ?_
    exact r_zret X hR dX2_takes_20 hw
  · have hw := hw.2 c2
    refine r_aload_n X dX2_takes_8 rfl (lv_at hl 0 rfl) ?_
    refine r_gR X hR fk_X2_61 dX2_takes_9 hw (fun x3 hw => ?_)
    refine r_aload_n X dX2_takes_12 rfl (lv_at hl 1 rfl) ?_
    refine r_callI X hR (c_V (ci := 0) (q := (RJ3, TJ3, 4)) X hR hl.1 (c_J3_equals l g x3 v1) (lw_V q706 q707 q708 q127 q709) rfl rfl mh_J3_equals rfl (by decide) (by decide) rfl (cat4 (Nat.le_of_ble_eq_true rfl)) dX2_takes_13 hw) (fun x4 h H locs cells slots hR hw => ?_)
    refine lv_if_ne (tgt := 21) hx hb dX2_takes_16 (by decide) (fun c5 => ?_) (fun c5 => ?_)
    · have hw := hw.1 c5
      refine r_aload_n X dX2_takes_21 rfl (lv_at hl 0 rfl) ?_
      refine r_callV X hR (c_V (ci := 2) (q := (RX2, TX2, 10)) X hR hl.1 (c_X2_next l g v0) (lw_V q546 q548 qs4 q116 q549) rfl rfl mh_X2_next rfl (by decide) (by decide) rfl (cat4 (Nat.le_of_ble_eq_true rfl)) dX2_takes_22 hw) (fun _ h H locs cells slots hR hw => ?_)
      refine lv_iconst (v := 1) hx hb dX2_takes_25 (by decide) ?_
      exact r_zret X hR dX2_takes_26 hw
    · have hw := hw.2 c5
      refine lv_iconst (v := 0) hx hb dX2_takes_19 (by decide) ?_
      exact r_zret X hR dX2_takes_20 hw
theorem c_X2_must (l : Launch) (g : GT) (v0 : Option Nat) (v1 : Option Nat) : CT qV l yX2_must (ws_ yX2_must cX2_must 2 none) 10 g [va_rf v0, va_rf v1] (fun K E h => w_X2_must g v0 v1 K E h) := by
  refine CT_of (lv := [(0, va_rf v0), (1, va_rf v1)]) (by decide +kernel) (by simp [lg_sl, cat_rf, cat_int, cat_long]) (by simp [lv_args, cat_rf, cat_int, cat_long]) (fun h0 K E p e s m args below meth c H locs cells slots ls X hxt hmn hw hR hl => ?_)
  have hx := X.hx
  have hb := X.hb
  unfold w_X2_must at hw
  refine r_aload_n X dX2_must_0 rfl (lv_at hl 0 rfl) ?_
  refine r_aload_n X dX2_must_1 rfl (lv_at hl 1 rfl) ?_
  refine r_callI X hR (c_V (ci := 2) (q := (RX2, TX2, 10)) X hR hl.1 (c_X2_takes l g v0 v1) (lw_V q734 q736 qs11 q116 q737) rfl rfl mh_X2_takes rfl (by decide) (by decide) rfl (cat4 (Nat.le_of_ble_eq_true rfl)) dX2_must_2 hw) (fun x1 h H locs cells slots hR hw => ?_)
  refine lv_if_ne (tgt := 14) hx hb dX2_must_5 (by decide) (fun c2 => ?_) (fun c2 => ?_)
  · have hw := hw.1 c2
    exact r_vret X hR rfl dX2_must_14 hw
  · have hw := hw.2 c2
    refine r_aload_n X dX2_must_8 rfl (lv_at hl 0 rfl) ?_
    refine lv_iconst (v := 1) hx hb dX2_must_9 (by decide) ?_
    refine r_callR X hR (c_V (ci := 2) (q := (RX2, TX2, 10)) X hR hl.1 (c_X2_fail l g v0 1) (lw_V q644 q646 qs7 q116 q647) rfl rfl mh_X2_fail rfl (by decide) (by decide) rfl (cat4 (Nat.le_of_ble_eq_true rfl)) dX2_must_10 hw) (fun x3 h H locs cells slots hR hw => ?_)
    exact r_throw X hxt hR dX2_must_13 hw
theorem c_X2_number (l : Launch) (g : GT) (v0 : Option Nat) (v1 : Int32) (v2 : Int32) : CT qI l yX2_number (ws_ yX2_number cX2_number 4 (Option.some Jvm.ClassFile.FieldType.int)) 9 g [va_rf v0, .int v1, .int v2] (fun K E h => w_X2_number g v0 v1 v2 K E h) := by
  refine CT_of (lv := [(0, va_rf v0), (1, .int v1), (2, .int v2)]) (by decide +kernel) (by simp [lg_sl, cat_rf, cat_int, cat_long]) (by simp [lv_args, cat_rf, cat_int, cat_long]) (fun h0 K E p e s m args below meth c H locs cells slots ls X hxt hmn hw hR hl => ?_)
  have hx := X.hx
  have hb := X.hb
  unfold w_X2_number at hw
  refine r_aload_n X dX2_number_0 rfl (lv_at hl 0 rfl) ?_
  refine r_gI X hR fk_X2_47 dX2_number_1 hw (fun x1 hw => ?_)
  refine lv_iconst (v := 3) hx hb dX2_number_4 (by decide) ?_
  refine lv_icmp_eq (tgt := 14) hx hb dX2_number_5 (by decide) (fun c2 => ?_) (fun c2 => ?_)
  · have hw := hw.1 c2
    refine r_aload_n X dX2_number_14 rfl (lv_at hl 0 rfl) ?_
    refine r_gI X hR fk_X2_68 dX2_number_15 hw (fun x3 hw => ?_)
    refine lv_iload_n hx hb dX2_number_18 rfl (lv_at hl 1 rfl) ?_
    refine lv_iload_n hx hb dX2_number_19 rfl (lv_at hl 2 rfl) ?_
    refine r_callI X hR (c_SN X hR hl.1 (c_X1_in l g x3 v1 v2) (lw_meth q461) q557 q115 q460 mh_X1_in rfl (by decide) (by decide) rfl (cat4 (Nat.le_of_ble_eq_true rfl)) dX2_number_20 hw) (fun x4 h H locs cells slots hR hw => ?_)
    refine lv_if_ne (tgt := 32) hx hb dX2_number_23 (by decide) (fun c5 => ?_) (fun c5 => ?_)
    · have hw := hw.1 c5
      refine r_aload_n X dX2_number_32 rfl (lv_at hl 0 rfl) ?_
      refine r_gI X hR fk_X2_68 dX2_number_33 hw (fun x6 hw => ?_)
      refine lv_istore_n (i := 3) (lv' := [(3, .int x6), (0, va_rf v0), (1, .int v1), (2, .int v2)]) hx hb dX2_number_36 rfl hl (by decide) rfl (fun ls hl => ?_)
      refine r_aload_n X dX2_number_37 rfl (lv_at hl 1 rfl) ?_
      refine r_callV X hR (c_V (ci := 2) (q := (RX2, TX2, 10)) X hR hl.1 (c_X2_next l g v0) (lw_V q546 q548 qs4 q116 q549) rfl rfl mh_X2_next rfl (by decide) (by decide) rfl (cat4 (Nat.le_of_ble_eq_true rfl)) dX2_number_38 hw) (fun _ h H locs cells slots hR hw => ?_)
      refine lv_iload_n hx hb dX2_number_41 rfl (lv_at hl 0 rfl) ?_
      exact r_iret X hR dX2_number_42 hw
    · have hw := hw.2 c5
      refine r_aload_n X dX2_number_26 rfl (lv_at hl 0 rfl) ?_
      refine lv_iconst (v := 4) hx hb dX2_number_27 (by decide) ?_
      refine r_callR X hR (c_V (ci := 2) (q := (RX2, TX2, 10)) X hR hl.1 (c_X2_fail l g v0 4) (lw_V q644 q646 qs7 q116 q647) rfl rfl mh_X2_fail rfl (by decide) (by decide) rfl (cat4 (Nat.le_of_ble_eq_true rfl)) dX2_number_28 hw) (fun x7 h H locs cells slots hR hw => ?_)
      exact r_throw X hxt hR dX2_number_31 hw
  · have hw := hw.2 c2
    refine r_aload_n X dX2_number_8 rfl (lv_at hl 0 rfl) ?_
    refine lv_iconst (v := 1) hx hb dX2_number_9 (by decide) ?_
    refine r_callR X hR (c_V (ci := 2) (q := (RX2, TX2, 10)) X hR hl.1 (c_X2_fail l g v0 1) (lw_V q644 q646 qs7 q116 q647) rfl rfl mh_X2_fail rfl (by decide) (by decide) rfl (cat4 (Nat.le_of_ble_eq_true rfl)) dX2_number_10 hw) (fun x8 h H locs cells slots hR hw => ?_)
    exact r_throw X hxt hR dX2_number_13 hw
theorem c_X2_after (l : Launch) (g : GT) (v0 : Option Nat) (v1 : Option Nat) (v2 : Int32) (v3 : Int32) : CT qI l yX2_after (ws_ yX2_after cX2_after 4 (Option.some Jvm.ClassFile.FieldType.int)) 11 g [va_rf v0, va_rf v1, .int v2, .int v3] (fun K E h => w_X2_after g v0 v1 v2 v3 K E h) := by
  refine CT_of (lv := [(0, va_rf v0), (1, va_rf v1), (2, .int v2), (3, .int v3)]) (by decide +kernel) (by simp [lg_sl, cat_rf, cat_int, cat_long]) (by simp [lv_args, cat_rf, cat_int, cat_long]) (fun h0 K E p e s m args below meth c H locs cells slots ls X hxt hmn hw hR hl => ?_)
  have hx := X.hx
  have hb := X.hb
  unfold w_X2_after at hw
  refine r_aload_n X dX2_after_0 rfl (lv_at hl 0 rfl) ?_
  refine r_aload_n X dX2_after_1 rfl (lv_at hl 1 rfl) ?_
  refine r_callVx X hxt hR (c_V (ci := 2) (q := (RX2, TX2, 10)) X hR hl.1 (c_X2_must l g v0 v1) (lw_V q730 q732 qs10 q116 q733) rfl rfl mh_X2_must rfl (by decide) (by decide) rfl (cat4 (Nat.le_of_ble_eq_true rfl)) dX2_after_2 hw) (fun _ h H locs cells slots hR hw => ?_)
  refine r_aload_n X dX2_after_5 rfl (lv_at hl 0 rfl) ?_
  refine lv_iload_n hx hb dX2_after_6 rfl (lv_at hl 2 rfl) ?_
  refine lv_iload_n hx hb dX2_after_7 rfl (lv_at hl 3 rfl) ?_
  refine r_callIx X hxt hR (c_V (ci := 2) (q := (RX2, TX2, 10)) X hR hl.1 (c_X2_number l g v0 v2 v3) (lw_V q738 q740 qs12 q116 q741) rfl rfl mh_X2_number rfl (by decide) (by decide) rfl (cat4 (Nat.le_of_ble_eq_true rfl)) dX2_after_8 hw) (fun x1 h H locs cells slots hR hw => ?_)
  exact r_iret X hR dX2_after_11 hw
theorem c_X2_countyLine (l : Launch) (g : GT) (v0 : Option Nat) : CT qV l yX2_countyLine (ws_ yX2_countyLine cX2_countyLine 2 none) 12 g [va_rf v0] (fun K E h => w_X2_countyLine g v0 K E h) := by
  refine CT_of (lv := [(0, va_rf v0)]) (by decide +kernel) (by simp [lg_sl, cat_rf, cat_int, cat_long]) (by simp [lv_args, cat_rf, cat_int, cat_long]) (fun h0 K E p e s m args below meth c H locs cells slots ls X hxt hmn hw hR hl => ?_)
  have hx := X.hx
  have hb := X.hb
  unfold w_X2_countyLine at hw
  refine r_aload_n X dX2_countyLine_0 rfl (lv_at hl 0 rfl) ?_
  refine r_gR X hR fk_X2_109 dX2_countyLine_1 hw (fun x1 hw => ?_)
  refine r_gI X hR fk_X2_137 dX2_countyLine_4 hw (fun x2 hw => ?_)
  refine lv_if_le (tgt := 16) hx hb dX2_countyLine_7 (by decide) (fun c3 => ?_) (fun c3 => ?_)
  · have hw := hw.1 c3
    refine r_aload_n X dX2_countyLine_16 rfl (lv_at hl 0 rfl) ?_
    refine r_callV X hR (c_V (ci := 2) (q := (RX2, TX2, 10)) X hR hl.1 (c_X2_next l g v0) (lw_V q546 q548 qs4 q116 q549) rfl rfl mh_X2_next rfl (by decide) (by decide) rfl (cat4 (Nat.le_of_ble_eq_true rfl)) dX2_countyLine_17 hw) (fun _ h H locs cells slots hR hw => ?_)
    refine r_aload_n X dX2_countyLine_20 rfl (lv_at hl 0 rfl) ?_
    refine r_ldcS X (tx := "lapse") (List.mem_of_getElem? (i := 9) rfl) dX2_countyLine_21 ?_
    refine lv_iconst (v := 1) hx hb dX2_countyLine_23 (by decide) ?_
    refine lv_bipush (v := 30) hx hb dX2_countyLine_24 (by decide) ?_
    refine r_callIx X hxt hR (c_V (ci := 2) (q := (RX2, TX2, 10)) X hR hl.1 (c_X2_after l g v0 (some (g.2.2.2.1 9)) 1 30) (lw_V q726 q728 qs9 q116 q729) rfl rfl mh_X2_after rfl (by decide) (by decide) rfl (cat4 (Nat.le_of_ble_eq_true rfl)) dX2_countyLine_26 hw) (fun x4 h H locs cells slots hR hw => ?_)
    refine lv_istore_n (i := 1) (lv' := [(1, .int x4), (0, va_rf v0)]) hx hb dX2_countyLine_29 rfl hl (by decide) (by simp [cat_rf, cat_int, cat_long]) (fun ls hl => ?_)
    refine r_aload_n X dX2_countyLine_30 rfl (lv_at hl 1 rfl) ?_
    refine r_gR X hR fk_X2_109 dX2_countyLine_31 hw (fun x5 hw => ?_)
    refine r_aload_n X dX2_countyLine_34 rfl (lv_at hl 1 rfl) ?_
    refine r_ldcS X (tx := "gust") (List.mem_of_getElem? (i := 10) rfl) dX2_countyLine_35 ?_
    refine lv_iconst (v := 0) hx hb dX2_countyLine_37 (by decide) ?_
    refine lv_bipush (v := 99) hx hb dX2_countyLine_38 (by decide) ?_
    refine r_callIx X hxt hR (c_V (ci := 2) (q := (RX2, TX2, 10)) X hR hl.1 (c_X2_after l g v0 (some (g.2.2.2.1 10)) 0 99) (lw_V q726 q728 qs9 q116 q729) rfl rfl mh_X2_after rfl (by decide) (by decide) rfl (cat4 (Nat.le_of_ble_eq_true rfl)) dX2_countyLine_40 hw) (fun x6 h H locs cells slots hR hw => ?_)
    refine r_put X hR fp_X2_181 (Or.inl fn_X2_181) (nf_int _) dX2_countyLine_43 hw (fun H locs h hR hw => ?_)
    refine r_aload_n X dX2_countyLine_46 rfl (lv_at hl 1 rfl) ?_
    refine r_gR X hR fk_X2_109 dX2_countyLine_47 hw (fun x7 hw => ?_)
    refine r_aload_n X dX2_countyLine_50 rfl (lv_at hl 1 rfl) ?_
    refine r_ldcS X (tx := "rains") (List.mem_of_getElem? (i := 11) rfl) dX2_countyLine_51 ?_
    refine lv_iconst (v := 0) hx hb dX2_countyLine_53 (by decide) ?_
    refine lv_bipush (v := 99) hx hb dX2_countyLine_54 (by decide) ?_
    refine r_callIx X hxt hR (c_V (ci := 2) (q := (RX2, TX2, 10)) X hR hl.1 (c_X2_after l g v0 (some (g.2.2.2.1 11)) 0 99) (lw_V q726 q728 qs9 q116 q729) rfl rfl mh_X2_after rfl (by decide) (by decide) rfl (cat4 (Nat.le_of_ble_eq_true rfl)) dX2_countyLine_56 hw) (fun x8 h H locs cells slots hR hw => ?_)
    refine r_put X hR fp_X2_185 (Or.inl fn_X2_185) (nf_int _) dX2_countyLine_59 hw (fun H locs h hR hw => ?_)
    refine r_aload_n X dX2_countyLine_62 rfl (lv_at hl 1 rfl) ?_
    refine r_gR X hR fk_X2_109 dX2_countyLine_63 hw (fun x9 hw => ?_)
    refine lv_iload_n hx hb dX2_countyLine_66 rfl (lv_at hl 0 rfl) ?_
    refine r_put X hR fp_X2_137 (Or.inl fn_X2_137) (nf_int _) dX2_countyLine_67 hw (fun H locs h hR hw => ?_)
    exact r_vret X hR rfl dX2_countyLine_70 hw
  · have hw := hw.2 c3
    refine r_aload_n X dX2_countyLine_10 rfl (lv_at hl 0 rfl) ?_
    refine lv_iconst (v := 3) hx hb dX2_countyLine_11 (by decide) ?_
    refine r_callR X hR (c_V (ci := 2) (q := (RX2, TX2, 10)) X hR hl.1 (c_X2_fail l g v0 3) (lw_V q644 q646 qs7 q116 q647) rfl rfl mh_X2_fail rfl (by decide) (by decide) rfl (cat4 (Nat.le_of_ble_eq_true rfl)) dX2_countyLine_12 hw) (fun x10 h H locs cells slots hR hw => ?_)
    exact r_throw X hxt hR dX2_countyLine_15 hw
theorem c_X2_begins (l : Launch) (g : GT) (v0 : Option Nat) (v1 : Int32) : CT qV l yX2_begins (ws_ yX2_begins cX2_begins 2 none) 9 g [va_rf v0, .int v1] (fun K E h => w_X2_begins g v0 v1 K E h) := by
  refine CT_of (lv := [(0, va_rf v0), (1, .int v1)]) (by decide +kernel) (by simp [lg_sl, cat_rf, cat_int, cat_long]) (by simp [lv_args, cat_rf, cat_int, cat_long]) (fun h0 K E p e s m args below meth c H locs cells slots ls X hxt hmn hw hR hl => ?_)
  have hx := X.hx
  have hb := X.hb
  unfold w_X2_begins at hw
  refine lv_iload_n hx hb dX2_begins_0 rfl (lv_at hl 1 rfl) ?_
  refine lv_if_ne (tgt := 10) hx hb dX2_begins_1 (by decide) (fun c1 => ?_) (fun c1 => ?_)
  · have hw := hw.1 c1
    refine r_aload_n X dX2_begins_10 rfl (lv_at hl 0 rfl) ?_
    refine r_gR X hR fk_X2_109 dX2_begins_11 hw (fun x2 hw => ?_)
    refine r_gI X hR fk_X2_137 dX2_begins_14 hw (fun x3 hw => ?_)
    refine lv_if_ne (tgt := 27) hx hb dX2_begins_17 (by decide) (fun c4 => ?_) (fun c4 => ?_)
    · have hw := hw.1 c4
      refine r_aload_n X dX2_begins_27 rfl (lv_at hl 0 rfl) ?_
      refine r_callV X hR (c_V (ci := 2) (q := (RX2, TX2, 10)) X hR hl.1 (c_X2_next l g v0) (lw_V q546 q548 qs4 q116 q549) rfl rfl mh_X2_next rfl (by decide) (by decide) rfl (cat4 (Nat.le_of_ble_eq_true rfl)) dX2_begins_28 hw) (fun _ h H locs cells slots hR hw => ?_)
      exact r_vret X hR rfl dX2_begins_31 hw
    · have hw := hw.2 c4
      refine r_aload_n X dX2_begins_20 rfl (lv_at hl 0 rfl) ?_
      refine lv_bipush (v := 6) hx hb dX2_begins_21 (by decide) ?_
      refine r_callR X hR (c_V (ci := 2) (q := (RX2, TX2, 10)) X hR hl.1 (c_X2_fail l g v0 6) (lw_V q644 q646 qs7 q116 q647) rfl rfl mh_X2_fail rfl (by decide) (by decide) rfl (cat4 (Nat.le_of_ble_eq_true rfl)) dX2_begins_23 hw) (fun x5 h H locs cells slots hR hw => ?_)
      exact r_throw X hxt hR dX2_begins_26 hw
  · have hw := hw.2 c1
    refine r_aload_n X dX2_begins_4 rfl (lv_at hl 0 rfl) ?_
    refine lv_iconst (v := 5) hx hb dX2_begins_5 (by decide) ?_
    refine r_callR X hR (c_V (ci := 2) (q := (RX2, TX2, 10)) X hR hl.1 (c_X2_fail l g v0 5) (lw_V q644 q646 qs7 q116 q647) rfl rfl mh_X2_fail rfl (by decide) (by decide) rfl (cat4 (Nat.le_of_ble_eq_true rfl)) dX2_begins_6 hw) (fun x6 h H locs cells slots hR hw => ?_)
    exact r_throw X hxt hR dX2_begins_9 hw
theorem t_X2_mustName_J260 {p : Program} {l : Launch} {e : Env} {s : State} {m : MethodId} {args : Array Value} {below : List Frame} {meth : Method} {c : Code} {g : GT} {h0 : AH} {v0 : Option Nat} {K : Unit → AH → Prop} {E : Nat → AH → Prop} {h : AH} {H : Heap} {locs : List Loc} {cells slots : Nat} {ls : Array Slot} (X : Cx g h0 p s m args meth c RX2 cX2_mustName 3 none) (hxt : c.exceptionTable.toList = [])  (hw : w_X2_mustName_J260 g v0 K E h) (hR : HS g s h H locs) (hl : lv_has ls 3 [(0, va_rf v0)]) : W p l e (RM 5 h0) s m args below meth c H locs cells slots (MQT below g (qV K) E args s h0) (F0 m 260 ls []) := by
  have hx := X.hx
  have hb := X.hb
  unfold w_X2_mustName_J260 at hw
  refine r_aload_n X dX2_mustName_260 rfl (lv_at hl 0 rfl) ?_
  refine lv_iconst (v := 1) hx hb dX2_mustName_261 (by decide) ?_
  refine r_callR X hR (c_V (ci := 2) (q := (RX2, TX2, 10)) X hR hl.1 (c_X2_fail l g v0 1) (lw_V q644 q646 qs7 q116 q647) rfl rfl mh_X2_fail rfl (by decide) (by decide) rfl (cat4 (Nat.le_of_ble_eq_true rfl)) dX2_mustName_262 hw) (fun x9 h H locs cells slots hR hw => ?_)
  exact r_throw X hxt hR dX2_mustName_265 hw
theorem t_X2_mustName_J211 {p : Program} {l : Launch} {e : Env} {s : State} {m : MethodId} {args : Array Value} {below : List Frame} {meth : Method} {c : Code} {g : GT} {h0 : AH} {v0 : Option Nat} {v2 : Int32} {K : Unit → AH → Prop} {E : Nat → AH → Prop} {h : AH} {H : Heap} {locs : List Loc} {cells slots : Nat} {ls : Array Slot} (X : Cx g h0 p s m args meth c RX2 cX2_mustName 3 none) (hxt : c.exceptionTable.toList = [])  (hw : w_X2_mustName_J211 g v0 v2 K E h) (hR : HS g s h H locs) (hl : lv_has ls 3 [(0, va_rf v0), (2, .int v2)]) : W p l e (RM 5 h0) s m args below meth c H locs cells slots (MQT below g (qV K) E args s h0) (F0 m 211 ls []) := by
  have hx := X.hx
  have hb := X.hb
  unfold w_X2_mustName_J211 at hw
  refine lv_iload_n hx hb dX2_mustName_211 rfl (lv_at hl 1 rfl) ?_
  by_cases c8_0 : v2 = 0
  · have hw := swT_at hw 0 rfl c8_0
    rw [c8_0]
    refine lv_tableIn (tgt := 260) hx hb dX2_mustName_212 (by decide) (by decide) rfl (by decide) ?_
    exact t_X2_mustName_J260 X hxt  hw hR (lv_sub hl [0] rfl)
  by_cases c8_1 : v2 = 1
  · have hw := swT_at hw 1 rfl c8_1
    rw [c8_1]
    refine lv_tableIn (tgt := 260) hx hb dX2_mustName_212 (by decide) (by decide) rfl (by decide) ?_
    exact t_X2_mustName_J260 X hxt  hw hR (lv_sub hl [0] rfl)
  by_cases c8_2 : v2 = 2
  · have hw := swT_at hw 2 rfl c8_2
    rw [c8_2]
    refine lv_tableIn (tgt := 260) hx hb dX2_mustName_212 (by decide) (by decide) rfl (by decide) ?_
    exact t_X2_mustName_J260 X hxt  hw hR (lv_sub hl [0] rfl)
  by_cases c8_3 : v2 = 3
  · have hw := swT_at hw 3 rfl c8_3
    rw [c8_3]
    refine lv_tableIn (tgt := 260) hx hb dX2_mustName_212 (by decide) (by decide) rfl (by decide) ?_
    exact t_X2_mustName_J260 X hxt  hw hR (lv_sub hl [0] rfl)
  by_cases c8_4 : v2 = 4
  · have hw := swT_at hw 4 rfl c8_4
    rw [c8_4]
    refine lv_tableIn (tgt := 260) hx hb dX2_mustName_212 (by decide) (by decide) rfl (by decide) ?_
    exact t_X2_mustName_J260 X hxt  hw hR (lv_sub hl [0] rfl)
  by_cases c8_5 : v2 = 5
  · have hw := swT_at hw 5 rfl c8_5
    rw [c8_5]
    refine lv_tableIn (tgt := 260) hx hb dX2_mustName_212 (by decide) (by decide) rfl (by decide) ?_
    exact t_X2_mustName_J260 X hxt  hw hR (lv_sub hl [0] rfl)
  by_cases c8_6 : v2 = 6
  · have hw := swT_at hw 6 rfl c8_6
    rw [c8_6]
    refine lv_tableIn (tgt := 260) hx hb dX2_mustName_212 (by decide) (by decide) rfl (by decide) ?_
    exact t_X2_mustName_J260 X hxt  hw hR (lv_sub hl [0] rfl)
  by_cases c8_7 : v2 = 7
  · have hw := swT_at hw 7 rfl c8_7
    rw [c8_7]
    refine lv_tableIn (tgt := 260) hx hb dX2_mustName_212 (by decide) (by decide) rfl (by decide) ?_
    exact t_X2_mustName_J260 X hxt  hw hR (lv_sub hl [0] rfl)
  have hw := hw.2 (List.forall_mem_cons.mpr ⟨c8_0, (List.forall_mem_cons.mpr ⟨c8_1, (List.forall_mem_cons.mpr ⟨c8_2, (List.forall_mem_cons.mpr ⟨c8_3, (List.forall_mem_cons.mpr ⟨c8_4, (List.forall_mem_cons.mpr ⟨c8_5, (List.forall_mem_cons.mpr ⟨c8_6, (List.forall_mem_cons.mpr ⟨c8_7, (fun _ h => absurd h List.not_mem_nil)⟩)⟩)⟩)⟩)⟩)⟩)⟩)⟩)
  refine lv_tableOut (tgt := 266) hx hb dX2_mustName_212 (sw_out (x := v2) (lo := 0) (n := 8) (by decide) (lt_s (lt_s (lt_s (lt_s (lt_s (lt_s (lt_s (lt_s lt_0 c8_0) c8_1) c8_2) c8_3) c8_4) c8_5) c8_6) c8_7)) (by decide) ?_
  exact r_vret X hR rfl dX2_mustName_266 hw
theorem c_X2_mustName (l : Launch) (g : GT) (v0 : Option Nat) : CT qV l yX2_mustName (ws_ yX2_mustName cX2_mustName 3 none) 5 g [va_rf v0] (fun K E h => w_X2_mustName g v0 K E h) := by
  refine CT_of (lv := [(0, va_rf v0)]) (by decide +kernel) (by simp [lg_sl, cat_rf, cat_int, cat_long]) (by simp [lv_args, cat_rf, cat_int, cat_long]) (fun h0 K E p e s m args below meth c H locs cells slots ls X hxt hmn hw hR hl => ?_)
  have hx := X.hx
  have hb := X.hb
  unfold w_X2_mustName at hw
  refine r_aload_n X dX2_mustName_0 rfl (lv_at hl 0 rfl) ?_
  refine r_gI X hR fk_X2_47 dX2_mustName_1 hw (fun x1 hw => ?_)
  refine lv_iconst (v := 2) hx hb dX2_mustName_4 (by decide) ?_
  refine lv_icmp_eq (tgt := 14) hx hb dX2_mustName_5 (by decide) (fun c2 => ?_) (fun c2 => ?_)
  · have hw := hw.1 c2
    refine r_aload_n X dX2_mustName_14 rfl (lv_at hl 0 rfl) ?_
    refine r_gR X hR fk_X2_61 dX2_mustName_15 hw (fun x3 hw => ?_)
    refine r_astore_n (i := 1) (lv' := [(1, va_rf x3), (0, va_rf v0)]) X dX2_mustName_18 rfl hl (by decide) (by simp [cat_rf, cat_int, cat_long]) (fun ls hl => ?_)
    refine lv_iconst (v := (-1)) hx hb dX2_mustName_19 (by decide) ?_
    refine lv_istore_n (i := 2) (lv' := [(2, .int (-1)), (1, va_rf x3), (0, va_rf v0)]) hx hb dX2_mustName_20 rfl hl (by decide) (by simp [cat_rf, cat_int, cat_long]) (fun ls hl => ?_)
    refine r_aload_n X dX2_mustName_21 rfl (lv_at hl 1 rfl) ?_
    refine r_callI X hR (c_V (ci := 0) (q := (RJ3, TJ3, 4)) X hR hl.1 (c_J3_hashCode l g x3) (lw_V q652 q653 q654 q127 q655) rfl rfl mh_J3_hashCode rfl (by decide) (by decide) rfl (cat4 (Nat.le_of_ble_eq_true rfl)) dX2_mustName_22 hw) (fun x4 h H locs cells slots hR hw => ?_)
    by_cases c5_0 : x4 = (-1381913276)
    · have hw := swT_at hw 0 rfl c5_0
      rw [c5_0]
      refine lv_lookup (tgt := 128) (off := 103) hx hb dX2_mustName_25 (by decide) (by decide) (by decide) ?_
      refine r_aload_n X dX2_mustName_128 rfl (lv_at hl 1 rfl) ?_
      refine r_ldcS X (tx := "umbrella") (List.mem_of_getElem? (i := 3) rfl) dX2_mustName_129 ?_
      refine r_callI X hR (c_V (ci := 0) (q := (RJ3, TJ3, 4)) X hR hl.1 (c_J3_equals l g x3 (some (g.2.2.2.1 3))) (lw_V q706 q707 q708 q127 q709) rfl rfl mh_J3_equals rfl (by decide) (by decide) rfl (cat4 (Nat.le_of_ble_eq_true rfl)) dX2_mustName_131 hw) (fun x6 h H locs cells slots hR hw => ?_)
      refine lv_if_eq (tgt := 211) hx hb dX2_mustName_134 (by decide) (fun c7 => ?_) (fun c7 => ?_)
      · have hw := hw.1 c7
        exact t_X2_mustName_J211 X hxt  hw hR (lv_sub hl [2, 0] rfl)
      · have hw := hw.2 c7
        refine lv_iconst (v := 2) hx hb dX2_mustName_137 (by decide) ?_
        refine lv_istore_n (i := 2) (lv' := [(2, .int 2), (1, va_rf x3), (0, va_rf v0)]) hx hb dX2_mustName_138 rfl hl (by decide) (by simp [cat_rf, cat_int, cat_long]) (fun ls hl => ?_)
        refine lv_goto (tgt := 211) hx hb dX2_mustName_139 (by decide) ?_
        exact t_X2_mustName_J211 X hxt  hw hR (lv_sub hl [2, 0] rfl)
    by_cases c5_1 : x4 = (-1357946953)
    · have hw := swT_at hw 1 rfl c5_1
      rw [c5_1]
      refine lv_lookup (tgt := 199) (off := 174) hx hb dX2_mustName_25 (by decide) (by decide) (by decide) ?_
      refine r_aload_n X dX2_mustName_199 rfl (lv_at hl 1 rfl) ?_
      refine r_ldcS X (tx := "claims") (List.mem_of_getElem? (i := 8) rfl) dX2_mustName_200 ?_
      refine r_callI X hR (c_V (ci := 0) (q := (RJ3, TJ3, 4)) X hR hl.1 (c_J3_equals l g x3 (some (g.2.2.2.1 8))) (lw_V q706 q707 q708 q127 q709) rfl rfl mh_J3_equals rfl (by decide) (by decide) rfl (cat4 (Nat.le_of_ble_eq_true rfl)) dX2_mustName_202 hw) (fun x10 h H locs cells slots hR hw => ?_)
      refine lv_if_eq (tgt := 211) hx hb dX2_mustName_205 (by decide) (fun c11 => ?_) (fun c11 => ?_)
      · have hw := hw.1 c11
        exact t_X2_mustName_J211 X hxt  hw hR (lv_sub hl [2, 0] rfl)
      · have hw := hw.2 c11
        refine lv_bipush (v := 7) hx hb dX2_mustName_208 (by decide) ?_
        refine lv_istore_n (i := 2) (lv' := [(2, .int 7), (1, va_rf x3), (0, va_rf v0)]) hx hb dX2_mustName_210 rfl hl (by decide) (by simp [cat_rf, cat_int, cat_long]) (fun ls hl => ?_)
        exact t_X2_mustName_J211 X hxt  hw hR (lv_sub hl [2, 0] rfl)
    by_cases c5_2 : x4 = (-1354575542)
    · have hw := swT_at hw 2 rfl c5_2
      rw [c5_2]
      refine lv_lookup (tgt := 100) (off := 75) hx hb dX2_mustName_25 (by decide) (by decide) (by decide) ?_
      refine r_aload_n X dX2_mustName_100 rfl (lv_at hl 1 rfl) ?_
      refine r_ldcS X (tx := "county") (List.mem_of_getElem? (i := 1) rfl) dX2_mustName_101 ?_
      refine r_callI X hR (c_V (ci := 0) (q := (RJ3, TJ3, 4)) X hR hl.1 (c_J3_equals l g x3 (some (g.2.2.2.1 1))) (lw_V q706 q707 q708 q127 q709) rfl rfl mh_J3_equals rfl (by decide) (by decide) rfl (cat4 (Nat.le_of_ble_eq_true rfl)) dX2_mustName_103 hw) (fun x12 h H locs cells slots hR hw => ?_)
      refine lv_if_eq (tgt := 211) hx hb dX2_mustName_106 (by decide) (fun c13 => ?_) (fun c13 => ?_)
      · have hw := hw.1 c13
        exact t_X2_mustName_J211 X hxt  hw hR (lv_sub hl [2, 0] rfl)
      · have hw := hw.2 c13
        refine lv_iconst (v := 0) hx hb dX2_mustName_109 (by decide) ?_
        refine lv_istore_n (i := 2) (lv' := [(2, .int 0), (1, va_rf x3), (0, va_rf v0)]) hx hb dX2_mustName_110 rfl hl (by decide) (by simp [cat_rf, cat_int, cat_long]) (fun ls hl => ?_)
        refine lv_goto (tgt := 211) hx hb dX2_mustName_111 (by decide) ?_
        exact t_X2_mustName_J211 X hxt  hw hR (lv_sub hl [2, 0] rfl)
    by_cases c5_3 : x4 = (-991716523)
    · have hw := swT_at hw 3 rfl c5_3
      rw [c5_3]
      refine lv_lookup (tgt := 114) (off := 89) hx hb dX2_mustName_25 (by decide) (by decide) (by decide) ?_
      refine r_aload_n X dX2_mustName_114 rfl (lv_at hl 1 rfl) ?_
      refine r_ldcS X (tx := "person") (List.mem_of_getElem? (i := 2) rfl) dX2_mustName_115 ?_
      refine r_callI X hR (c_V (ci := 0) (q := (RJ3, TJ3, 4)) X hR hl.1 (c_J3_equals l g x3 (some (g.2.2.2.1 2))) (lw_V q706 q707 q708 q127 q709) rfl rfl mh_J3_equals rfl (by decide) (by decide) rfl (cat4 (Nat.le_of_ble_eq_true rfl)) dX2_mustName_117 hw) (fun x14 h H locs cells slots hR hw => ?_)
      refine lv_if_eq (tgt := 211) hx hb dX2_mustName_120 (by decide) (fun c15 => ?_) (fun c15 => ?_)
      · have hw := hw.1 c15
        exact t_X2_mustName_J211 X hxt  hw hR (lv_sub hl [2, 0] rfl)
      · have hw := hw.2 c15
        refine lv_iconst (v := 1) hx hb dX2_mustName_123 (by decide) ?_
        refine lv_istore_n (i := 2) (lv' := [(2, .int 1), (1, va_rf x3), (0, va_rf v0)]) hx hb dX2_mustName_124 rfl hl (by decide) (by simp [cat_rf, cat_int, cat_long]) (fun ls hl => ?_)
        refine lv_goto (tgt := 211) hx hb dX2_mustName_125 (by decide) ?_
        exact t_X2_mustName_J211 X hxt  hw hR (lv_sub hl [2, 0] rfl)
    by_cases c5_4 : x4 = 3317767
    · have hw := swT_at hw 4 rfl c5_4
      rw [c5_4]
      refine lv_lookup (tgt := 156) (off := 131) hx hb dX2_mustName_25 (by decide) (by decide) (by decide) ?_
      refine r_aload_n X dX2_mustName_156 rfl (lv_at hl 1 rfl) ?_
      refine r_ldcS X (tx := "left") (List.mem_of_getElem? (i := 5) rfl) dX2_mustName_157 ?_
      refine r_callI X hR (c_V (ci := 0) (q := (RJ3, TJ3, 4)) X hR hl.1 (c_J3_equals l g x3 (some (g.2.2.2.1 5))) (lw_V q706 q707 q708 q127 q709) rfl rfl mh_J3_equals rfl (by decide) (by decide) rfl (cat4 (Nat.le_of_ble_eq_true rfl)) dX2_mustName_159 hw) (fun x16 h H locs cells slots hR hw => ?_)
      refine lv_if_eq (tgt := 211) hx hb dX2_mustName_162 (by decide) (fun c17 => ?_) (fun c17 => ?_)
      · have hw := hw.1 c17
        exact t_X2_mustName_J211 X hxt  hw hR (lv_sub hl [2, 0] rfl)
      · have hw := hw.2 c17
        refine lv_iconst (v := 4) hx hb dX2_mustName_165 (by decide) ?_
        refine lv_istore_n (i := 2) (lv' := [(2, .int 4), (1, va_rf x3), (0, va_rf v0)]) hx hb dX2_mustName_166 rfl hl (by decide) (by simp [cat_rf, cat_int, cat_long]) (fun ls hl => ?_)
        refine lv_goto (tgt := 211) hx hb dX2_mustName_167 (by decide) ?_
        exact t_X2_mustName_J211 X hxt  hw hR (lv_sub hl [2, 0] rfl)
    by_cases c5_5 : x4 = 3318015
    · have hw := swT_at hw 5 rfl c5_5
      rw [c5_5]
      refine lv_lookup (tgt := 142) (off := 117) hx hb dX2_mustName_25 (by decide) (by decide) (by decide) ?_
      refine r_aload_n X dX2_mustName_142 rfl (lv_at hl 1 rfl) ?_
      refine r_ldcS X (tx := "lent") (List.mem_of_getElem? (i := 4) rfl) dX2_mustName_143 ?_
      refine r_callI X hR (c_V (ci := 0) (q := (RJ3, TJ3, 4)) X hR hl.1 (c_J3_equals l g x3 (some (g.2.2.2.1 4))) (lw_V q706 q707 q708 q127 q709) rfl rfl mh_J3_equals rfl (by decide) (by decide) rfl (cat4 (Nat.le_of_ble_eq_true rfl)) dX2_mustName_145 hw) (fun x18 h H locs cells slots hR hw => ?_)
      refine lv_if_eq (tgt := 211) hx hb dX2_mustName_148 (by decide) (fun c19 => ?_) (fun c19 => ?_)
      · have hw := hw.1 c19
        exact t_X2_mustName_J211 X hxt  hw hR (lv_sub hl [2, 0] rfl)
      · have hw := hw.2 c19
        refine lv_iconst (v := 3) hx hb dX2_mustName_151 (by decide) ?_
        refine lv_istore_n (i := 2) (lv' := [(2, .int 3), (1, va_rf x3), (0, va_rf v0)]) hx hb dX2_mustName_152 rfl hl (by decide) (by simp [cat_rf, cat_int, cat_long]) (fun ls hl => ?_)
        refine lv_goto (tgt := 211) hx hb dX2_mustName_153 (by decide) ?_
        exact t_X2_mustName_J211 X hxt  hw hR (lv_sub hl [2, 0] rfl)
    by_cases c5_6 : x4 = 3492756
    · have hw := swT_at hw 6 rfl c5_6
      rw [c5_6]
      refine lv_lookup (tgt := 184) (off := 159) hx hb dX2_mustName_25 (by decide) (by decide) (by decide) ?_
      refine r_aload_n X dX2_mustName_184 rfl (lv_at hl 1 rfl) ?_
      refine r_ldcS X (tx := "rain") (List.mem_of_getElem? (i := 7) rfl) dX2_mustName_185 ?_
      refine r_callI X hR (c_V (ci := 0) (q := (RJ3, TJ3, 4)) X hR hl.1 (c_J3_equals l g x3 (some (g.2.2.2.1 7))) (lw_V q706 q707 q708 q127 q709) rfl rfl mh_J3_equals rfl (by decide) (by decide) rfl (cat4 (Nat.le_of_ble_eq_true rfl)) dX2_mustName_187 hw) (fun x20 h H locs cells slots hR hw => ?_)
      refine lv_if_eq (tgt := 211) hx hb dX2_mustName_190 (by decide) (fun c21 => ?_) (fun c21 => ?_)
      · have hw := hw.1 c21
        exact t_X2_mustName_J211 X hxt  hw hR (lv_sub hl [2, 0] rfl)
      · have hw := hw.2 c21
        refine lv_bipush (v := 6) hx hb dX2_mustName_193 (by decide) ?_
        refine lv_istore_n (i := 2) (lv' := [(2, .int 6), (1, va_rf x3), (0, va_rf v0)]) hx hb dX2_mustName_195 rfl hl (by decide) (by simp [cat_rf, cat_int, cat_long]) (fun ls hl => ?_)
        refine lv_goto (tgt := 211) hx hb dX2_mustName_196 (by decide) ?_
        exact t_X2_mustName_J211 X hxt  hw hR (lv_sub hl [2, 0] rfl)
    by_cases c5_7 : x4 = 738943668
    · have hw := swT_at hw 7 rfl c5_7
      rw [c5_7]
      refine lv_lookup (tgt := 170) (off := 145) hx hb dX2_mustName_25 (by decide) (by decide) (by decide) ?_
      refine r_aload_n X dX2_mustName_170 rfl (lv_at hl 1 rfl) ?_
      refine r_ldcS X (tx := "changed") (List.mem_of_getElem? (i := 6) rfl) dX2_mustName_171 ?_
      refine r_callI X hR (c_V (ci := 0) (q := (RJ3, TJ3, 4)) X hR hl.1 (c_J3_equals l g x3 (some (g.2.2.2.1 6))) (lw_V q706 q707 q708 q127 q709) rfl rfl mh_J3_equals rfl (by decide) (by decide) rfl (cat4 (Nat.le_of_ble_eq_true rfl)) dX2_mustName_173 hw) (fun x22 h H locs cells slots hR hw => ?_)
      refine lv_if_eq (tgt := 211) hx hb dX2_mustName_176 (by decide) (fun c23 => ?_) (fun c23 => ?_)
      · have hw := hw.1 c23
        exact t_X2_mustName_J211 X hxt  hw hR (lv_sub hl [2, 0] rfl)
      · have hw := hw.2 c23
        refine lv_iconst (v := 5) hx hb dX2_mustName_179 (by decide) ?_
        refine lv_istore_n (i := 2) (lv' := [(2, .int 5), (1, va_rf x3), (0, va_rf v0)]) hx hb dX2_mustName_180 rfl hl (by decide) (by simp [cat_rf, cat_int, cat_long]) (fun ls hl => ?_)
        refine lv_goto (tgt := 211) hx hb dX2_mustName_181 (by decide) ?_
        exact t_X2_mustName_J211 X hxt  hw hR (lv_sub hl [2, 0] rfl)
    have hw := hw.2 (List.forall_mem_cons.mpr ⟨c5_0, (List.forall_mem_cons.mpr ⟨c5_1, (List.forall_mem_cons.mpr ⟨c5_2, (List.forall_mem_cons.mpr ⟨c5_3, (List.forall_mem_cons.mpr ⟨c5_4, (List.forall_mem_cons.mpr ⟨c5_5, (List.forall_mem_cons.mpr ⟨c5_6, (List.forall_mem_cons.mpr ⟨c5_7, (fun _ h => absurd h List.not_mem_nil)⟩)⟩)⟩)⟩)⟩)⟩)⟩)⟩)
    refine lv_lookup (tgt := 211) (off := 186) hx hb dX2_mustName_25 (by decide) (lk_out (List.forall_mem_cons.mpr ⟨c5_0, (List.forall_mem_cons.mpr ⟨c5_1, (List.forall_mem_cons.mpr ⟨c5_2, (List.forall_mem_cons.mpr ⟨c5_3, (List.forall_mem_cons.mpr ⟨c5_4, (List.forall_mem_cons.mpr ⟨c5_5, (List.forall_mem_cons.mpr ⟨c5_6, (List.forall_mem_cons.mpr ⟨c5_7, (fun _ h => absurd h List.not_mem_nil)⟩)⟩)⟩)⟩)⟩)⟩)⟩)⟩)) (by decide) ?_
    exact t_X2_mustName_J211 X hxt  hw hR (lv_sub hl [2, 0] rfl)
  · have hw := hw.2 c2
    refine r_aload_n X dX2_mustName_8 rfl (lv_at hl 0 rfl) ?_
    refine lv_iconst (v := 1) hx hb dX2_mustName_9 (by decide) ?_
    refine r_callR X hR (c_V (ci := 2) (q := (RX2, TX2, 10)) X hR hl.1 (c_X2_fail l g v0 1) (lw_V q644 q646 qs7 q116 q647) rfl rfl mh_X2_fail rfl (by decide) (by decide) rfl (cat4 (Nat.le_of_ble_eq_true rfl)) dX2_mustName_10 hw) (fun x24 h H locs cells slots hR hw => ?_)
    exact r_throw X hxt hR dX2_mustName_13 hw
theorem t_X9_find_L41 {p : Program} {l : Launch} {e : Env} {s : State} {m : MethodId} {args : Array Value} {below : List Frame} {meth : Method} {c : Code} {g : GT} {h0 : AH} {v0 : Option Nat} {v1 : Option Nat} {K : Option Nat → AH → Prop} {E : Nat → AH → Prop} (X : Cx g h0 p s m args meth c RX9 cX9_find 3 (Option.some (Jvm.ClassFile.FieldType.object "UmbrellaHeir$Named")))  : ∀ (n : Nat) {v2 : Int32} {h : AH} {H : Heap} {locs : List Loc} {cells slots : Nat} {ls : Array Slot}, LpN1 (w_X9_find_L41 g v0 v1 K E) n v2 h → HS g s h H locs → lv_has ls 3 [(0, va_rf v0), (1, va_rf v1), (2, .int v2)] → W p l e (RM 3 h0) s m args below meth c H locs cells slots (MQT below g (qR K) E args s h0) (F0 m 41 ls []) := by
  have hx := X.hx
  have hb := X.hb
  intro n
  induction n with
  | zero =>
    intro v2 h H locs cells slots ls hw
    exact hw.elim
  | succ n k41 =>
    intro v2 h H locs cells slots ls hw hR hl
    have hw : w_X9_find_L41 g v0 v1 K E (LpN1 (w_X9_find_L41 g v0 v1 K E) n) v2 h := hw
    unfold w_X9_find_L41 at hw
    refine lv_iload_n hx hb dX9_find_41 rfl (lv_at hl 2 rfl) ?_
    refine r_aload_n X dX9_find_42 rfl (lv_at hl 0 rfl) ?_
    refine r_gI X hR fk_X9_49 dX9_find_43 hw (fun x3 hw => ?_)
    refine lv_icmp_ge (tgt := 78) hx hb dX9_find_46 (by decide) (fun c4 => ?_) (fun c4 => ?_)
    · have hw := hw.1 c4
      refine r_null X dX9_find_78 ?_
      exact r_aret X (Or.inl ⟨_, rfl⟩) hR dX9_find_79 hw
    · have hw := hw.2 c4
      refine r_aload_n X dX9_find_49 rfl (lv_at hl 0 rfl) ?_
      refine r_gR X hR fk_X9_19 dX9_find_50 hw (fun x5 hw => ?_)
      refine lv_iload_n hx hb dX9_find_53 rfl (lv_at hl 2 rfl) ?_
      refine r_aald X hR (t := 6) (by decide) (by decide) dX9_find_54 hw (fun x6 hw => ?_)
      refine r_gR X hR fk_X9_52 dX9_find_55 hw (fun x7 hw => ?_)
      refine r_aload_n X dX9_find_58 rfl (lv_at hl 1 rfl) ?_
      refine r_callI X hR (c_V (ci := 0) (q := (RJ3, TJ3, 4)) X hR hl.1 (c_J3_equals l g x7 v1) (lw_V q764 q707 q708 q127 q709) rfl rfl mh_J3_equals rfl (by decide) (by decide) rfl (cat4 (Nat.le_of_ble_eq_true rfl)) dX9_find_59 hw) (fun x8 h H locs cells slots hR hw => ?_)
      refine lv_if_eq (tgt := 72) hx hb dX9_find_62 (by decide) (fun c9 => ?_) (fun c9 => ?_)
      · have hw := hw.1 c9
        refine r_iinc X (k := 2) (v := (v2 + 1)) (lv' := fun x10 => [(2, .int x10), (0, va_rf v0), (1, va_rf v1)]) dX9_find_72 hl rfl rfl (by decide) hw (fun _ => by simp [cat_rf, cat_int, cat_long]) (fun x10 hw ls hl => ?_)
        refine lv_goto (tgt := 41) hx hb dX9_find_75 (by decide) ?_
        exact k41 hw hR (lv_sub hl [1, 2, 0] rfl)
      · have hw := hw.2 c9
        refine r_aload_n X dX9_find_65 rfl (lv_at hl 0 rfl) ?_
        refine r_gR X hR fk_X9_19 dX9_find_66 hw (fun x11 hw => ?_)
        refine lv_iload_n hx hb dX9_find_69 rfl (lv_at hl 2 rfl) ?_
        refine r_aald X hR (t := 6) (by decide) (by decide) dX9_find_70 hw (fun x12 hw => ?_)
        exact r_aret X (Or.inl ⟨_, rfl⟩) hR dX9_find_71 hw
theorem t_X9_find_L2 {p : Program} {l : Launch} {e : Env} {s : State} {m : MethodId} {args : Array Value} {below : List Frame} {meth : Method} {c : Code} {g : GT} {h0 : AH} {v0 : Option Nat} {v1 : Option Nat} {K : Option Nat → AH → Prop} {E : Nat → AH → Prop} (X : Cx g h0 p s m args meth c RX9 cX9_find 3 (Option.some (Jvm.ClassFile.FieldType.object "UmbrellaHeir$Named")))  : ∀ (n : Nat) {v2 : Int32} {h : AH} {H : Heap} {locs : List Loc} {cells slots : Nat} {ls : Array Slot}, LpN1 (w_X9_find_L2 g v0 v1 K E) n v2 h → HS g s h H locs → lv_has ls 3 [(0, va_rf v0), (1, va_rf v1), (2, .int v2)] → W p l e (RM 3 h0) s m args below meth c H locs cells slots (MQT below g (qR K) E args s h0) (F0 m 2 ls []) := by
  have hx := X.hx
  have hb := X.hb
  intro n
  induction n with
  | zero =>
    intro v2 h H locs cells slots ls hw
    exact hw.elim
  | succ n k2 =>
    intro v2 h H locs cells slots ls hw hR hl
    have hw : w_X9_find_L2 g v0 v1 K E (LpN1 (w_X9_find_L2 g v0 v1 K E) n) v2 h := hw
    unfold w_X9_find_L2 at hw
    refine lv_iload_n hx hb dX9_find_2 rfl (lv_at hl 2 rfl) ?_
    refine r_aload_n X dX9_find_3 rfl (lv_at hl 0 rfl) ?_
    refine r_gI X hR fk_X9_35 dX9_find_4 hw (fun x1 hw => ?_)
    refine lv_icmp_ge (tgt := 39) hx hb dX9_find_7 (by decide) (fun c2 => ?_) (fun c2 => ?_)
    · have hw := hw.1 c2
      refine lv_iconst (v := 0) hx hb dX9_find_39 (by decide) ?_
      refine lv_istore_n (i := 2) (lv' := [(2, .int 0), (0, va_rf v0), (1, va_rf v1)]) hx hb dX9_find_40 rfl hl (by decide) (by simp [cat_rf, cat_int, cat_long]) (fun ls hl => ?_)
      obtain ⟨n, hw⟩ := hw
      exact t_X9_find_L41 X  n hw hR (lv_sub hl [1, 2, 0] rfl)
    · have hw := hw.2 c2
      refine r_aload_n X dX9_find_10 rfl (lv_at hl 0 rfl) ?_
      refine r_gR X hR fk_X9_11 dX9_find_11 hw (fun x13 hw => ?_)
      refine lv_iload_n hx hb dX9_find_14 rfl (lv_at hl 2 rfl) ?_
      refine r_aald X hR (t := 5) (by decide) (by decide) dX9_find_15 hw (fun x14 hw => ?_)
      refine r_gR X hR fk_X9_39 dX9_find_16 hw (fun x15 hw => ?_)
      refine r_aload_n X dX9_find_19 rfl (lv_at hl 1 rfl) ?_
      refine r_callI X hR (c_V (ci := 0) (q := (RJ3, TJ3, 4)) X hR hl.1 (c_J3_equals l g x15 v1) (lw_V q764 q707 q708 q127 q709) rfl rfl mh_J3_equals rfl (by decide) (by decide) rfl (cat4 (Nat.le_of_ble_eq_true rfl)) dX9_find_20 hw) (fun x16 h H locs cells slots hR hw => ?_)
      refine lv_if_eq (tgt := 33) hx hb dX9_find_23 (by decide) (fun c17 => ?_) (fun c17 => ?_)
      · have hw := hw.1 c17
        refine r_iinc X (k := 2) (v := (v2 + 1)) (lv' := fun x18 => [(2, .int x18), (0, va_rf v0), (1, va_rf v1)]) dX9_find_33 hl rfl rfl (by decide) hw (fun _ => by simp [cat_rf, cat_int, cat_long]) (fun x18 hw ls hl => ?_)
        refine lv_goto (tgt := 2) hx hb dX9_find_36 (by decide) ?_
        exact k2 hw hR (lv_sub hl [1, 2, 0] rfl)
      · have hw := hw.2 c17
        refine r_aload_n X dX9_find_26 rfl (lv_at hl 0 rfl) ?_
        refine r_gR X hR fk_X9_11 dX9_find_27 hw (fun x19 hw => ?_)
        refine lv_iload_n hx hb dX9_find_30 rfl (lv_at hl 2 rfl) ?_
        refine r_aald X hR (t := 5) (by decide) (by decide) dX9_find_31 hw (fun x20 hw => ?_)
        exact r_aret X (Or.inl ⟨_, rfl⟩) hR dX9_find_32 hw
theorem c_X9_find (l : Launch) (g : GT) (v0 : Option Nat) (v1 : Option Nat) : CT qR l yX9_find (ws_ yX9_find cX9_find 3 (Option.some (Jvm.ClassFile.FieldType.object "UmbrellaHeir$Named"))) 3 g [va_rf v0, va_rf v1] (fun K E h => w_X9_find g v0 v1 K E h) := by
  refine CT_of (lv := [(0, va_rf v0), (1, va_rf v1)]) (by decide +kernel) (by simp [lg_sl, cat_rf, cat_int, cat_long]) (by simp [lv_args, cat_rf, cat_int, cat_long]) (fun h0 K E p e s m args below meth c H locs cells slots ls X hxt hmn hw hR hl => ?_)
  have hx := X.hx
  have hb := X.hb
  unfold w_X9_find at hw
  refine lv_iconst (v := 0) hx hb dX9_find_0 (by decide) ?_
  refine lv_istore_n (i := 2) (lv' := [(2, .int 0), (0, va_rf v0), (1, va_rf v1)]) hx hb dX9_find_1 rfl hl (by decide) (by simp [cat_rf, cat_int, cat_long]) (fun ls hl => ?_)
  obtain ⟨n, hw⟩ := hw
  exact t_X9_find_L2 X  n hw hR (lv_sub hl [1, 2, 0] rfl)
theorem c_X2_newName (l : Launch) (g : GT) (v0 : Option Nat) : CT qR l yX2_newName (ws_ yX2_newName cX2_newName 2 (Option.some (Jvm.ClassFile.FieldType.object "java/lang/String"))) 9 g [va_rf v0] (fun K E h => w_X2_newName g v0 K E h) := by
  refine CT_of (lv := [(0, va_rf v0)]) (by decide +kernel) (by simp [lg_sl, cat_rf, cat_int, cat_long]) (by simp [lv_args, cat_rf, cat_int, cat_long]) (fun h0 K E p e s m args below meth c H locs cells slots ls X hxt hmn hw hR hl => ?_)
  have hx := X.hx
  have hb := X.hb
  unfold w_X2_newName at hw
  refine r_aload_n X dX2_newName_0 rfl (lv_at hl 0 rfl) ?_
  refine r_callVx X hxt hR (c_V (ci := 2) (q := (RX2, TX2, 10)) X hR hl.1 (c_X2_mustName l g v0) (lw_V q756 q758 qs16 q116 q759) rfl rfl mh_X2_mustName rfl (by decide) (by decide) rfl (cat4 (Nat.le_of_ble_eq_true rfl)) dX2_newName_1 hw) (fun _ h H locs cells slots hR hw => ?_)
  refine r_aload_n X dX2_newName_4 rfl (lv_at hl 0 rfl) ?_
  refine r_gR X hR fk_X2_109 dX2_newName_5 hw (fun x1 hw => ?_)
  refine r_aload_n X dX2_newName_8 rfl (lv_at hl 0 rfl) ?_
  refine r_gR X hR fk_X2_61 dX2_newName_9 hw (fun x2 hw => ?_)
  refine r_callR X hR (c_V (ci := 9) (q := (RX9, TX9, 11)) X hR hl.1 (c_X9_find l g x1 x2) (lw_V q760 q761 q762 q126 q763) rfl rfl mh_X9_find rfl (by decide) (by decide) rfl (cat4 (Nat.le_of_ble_eq_true rfl)) dX2_newName_12 hw) (fun x3 h H locs cells slots hR hw => ?_)
  refine r_ifnull (tgt := 24) X dX2_newName_15 (by decide) (fun c4 => ?_) (fun c4 => ?_)
  · have hw := hw.1 c4
    refine r_aload_n X dX2_newName_24 rfl (lv_at hl 0 rfl) ?_
    refine r_gR X hR fk_X2_61 dX2_newName_25 hw (fun x5 hw => ?_)
    refine r_astore_n (i := 1) (lv' := [(1, va_rf x5), (0, va_rf v0)]) X dX2_newName_28 rfl hl (by decide) (by simp [cat_rf, cat_int, cat_long]) (fun ls hl => ?_)
    refine r_aload_n X dX2_newName_29 rfl (lv_at hl 1 rfl) ?_
    refine r_callV X hR (c_V (ci := 2) (q := (RX2, TX2, 10)) X hR hl.1 (c_X2_next l g v0) (lw_V q546 q548 qs4 q116 q549) rfl rfl mh_X2_next rfl (by decide) (by decide) rfl (cat4 (Nat.le_of_ble_eq_true rfl)) dX2_newName_30 hw) (fun _ h H locs cells slots hR hw => ?_)
    refine r_aload_n X dX2_newName_33 rfl (lv_at hl 0 rfl) ?_
    exact r_aret X (Or.inl ⟨_, rfl⟩) hR dX2_newName_34 hw
  · have hw := hw.2 c4
    refine r_aload_n X dX2_newName_18 rfl (lv_at hl 0 rfl) ?_
    refine lv_iconst (v := 3) hx hb dX2_newName_19 (by decide) ?_
    refine r_callR X hR (c_V (ci := 2) (q := (RX2, TX2, 10)) X hR hl.1 (c_X2_fail l g v0 3) (lw_V q644 q646 qs7 q116 q647) rfl rfl mh_X2_fail rfl (by decide) (by decide) rfl (cat4 (Nat.le_of_ble_eq_true rfl)) dX2_newName_20 hw) (fun x6 h H locs cells slots hR hw => ?_)
    exact r_throw X hxt hR dX2_newName_23 hw
theorem c_X10_init (l : Launch) (g : GT) (v0 : Option Nat) (v1 : Option Nat) (v2 : Int32) : CT qV l yX10_init (ws_ yX10_init cX10_init 3 none) 1 g [va_rf v0, va_rf v1, .int v2] (fun K E h => w_X10_init g v0 v1 v2 K E h) := by
  refine CT_of (lv := [(0, va_rf v0), (1, va_rf v1), (2, .int v2)]) (by decide +kernel) (by simp [lg_sl, cat_rf, cat_int, cat_long]) (by simp [lv_args, cat_rf, cat_int, cat_long]) (fun h0 K E p e s m args below meth c H locs cells slots ls X hxt hmn hw hR hl => ?_)
  have hx := X.hx
  have hb := X.hb
  unfold w_X10_init at hw
  refine r_aload_n X dX10_init_0 rfl (lv_at hl 0 rfl) ?_
  obtain ⟨z1, hw⟩ := hw
  refine r_objInit X hl.1 z1 q781 q158 q159 (by decide) (cat4 (Nat.le_of_ble_eq_true rfl)) dX10_init_1 ?_
  refine r_aload_n X dX10_init_4 rfl (lv_at hl 0 rfl) ?_
  refine r_aload_n X dX10_init_5 rfl (lv_at hl 1 rfl) ?_
  refine r_put X hR fp_X10_7 (Or.inr hmn) (nf_obj _ _) dX10_init_6 hw (fun H locs h hR hw => ?_)
  refine r_aload_n X dX10_init_9 rfl (lv_at hl 0 rfl) ?_
  refine lv_iload_n hx hb dX10_init_10 rfl (lv_at hl 2 rfl) ?_
  refine r_put X hR fp_X10_13 (Or.inr hmn) (nf_int _) dX10_init_11 hw (fun H locs h hR hw => ?_)
  exact r_vret X hR rfl dX10_init_14 hw
theorem c_X11_init (l : Launch) (g : GT) (v0 : Option Nat) (v1 : Option Nat) (v2 : Int32) : CT qV l yX11_init (ws_ yX11_init cX11_init 3 none) 2 g [va_rf v0, va_rf v1, .int v2] (fun K E h => w_X11_init g v0 v1 v2 K E h) := by
  refine CT_of (lv := [(0, va_rf v0), (1, va_rf v1), (2, .int v2)]) (by decide +kernel) (by simp [lg_sl, cat_rf, cat_int, cat_long]) (by simp [lv_args, cat_rf, cat_int, cat_long]) (fun h0 K E p e s m args below meth c H locs cells slots ls X hxt hmn hw hR hl => ?_)
  have hx := X.hx
  have hb := X.hb
  unfold w_X11_init at hw
  refine r_aload_n X dX11_init_0 rfl (lv_at hl 0 rfl) ?_
  refine r_aload_n X dX11_init_1 rfl (lv_at hl 1 rfl) ?_
  refine lv_iload_n hx hb dX11_init_2 rfl (lv_at hl 2 rfl) ?_
  refine r_callV X hR (c_I X hR hl.1 (c_X10_init l g v0 v1 v2) (lw_meth q780) q132 q778 q779 rfl mh_X10_init rfl (by decide) (by decide) rfl (cat4 (Nat.le_of_ble_eq_true rfl)) dX11_init_3 hw) (fun _ h H locs cells slots hR hw => ?_)
  exact r_vret X hR rfl dX11_init_6 hw
theorem c_X12_init (l : Launch) (g : GT) (v0 : Option Nat) (v1 : Option Nat) (v2 : Int32) : CT qV l yX12_init (ws_ yX12_init cX12_init 3 none) 3 g [va_rf v0, va_rf v1, .int v2] (fun K E h => w_X12_init g v0 v1 v2 K E h) := by
  refine CT_of (lv := [(0, va_rf v0), (1, va_rf v1), (2, .int v2)]) (by decide +kernel) (by simp [lg_sl, cat_rf, cat_int, cat_long]) (by simp [lv_args, cat_rf, cat_int, cat_long]) (fun h0 K E p e s m args below meth c H locs cells slots ls X hxt hmn hw hR hl => ?_)
  have hx := X.hx
  have hb := X.hb
  unfold w_X12_init at hw
  refine r_aload_n X dX12_init_0 rfl (lv_at hl 0 rfl) ?_
  refine r_aload_n X dX12_init_1 rfl (lv_at hl 1 rfl) ?_
  refine lv_iload_n hx hb dX12_init_2 rfl (lv_at hl 2 rfl) ?_
  refine r_callV X hR (c_I X hR hl.1 (c_X11_init l g v0 v1 v2) (lw_meth q777) q133 q775 q776 rfl mh_X11_init rfl (by decide) (by decide) rfl (cat4 (Nat.le_of_ble_eq_true rfl)) dX12_init_3 hw) (fun _ h H locs cells slots hR hw => ?_)
  exact r_vret X hR rfl dX12_init_6 hw
theorem c_X13_init (l : Launch) (g : GT) (v0 : Option Nat) (v1 : Option Nat) (v2 : Int32) : CT qV l yX13_init (ws_ yX13_init cX13_init 3 none) 3 g [va_rf v0, va_rf v1, .int v2] (fun K E h => w_X13_init g v0 v1 v2 K E h) := by
  refine CT_of (lv := [(0, va_rf v0), (1, va_rf v1), (2, .int v2)]) (by decide +kernel) (by simp [lg_sl, cat_rf, cat_int, cat_long]) (by simp [lv_args, cat_rf, cat_int, cat_long]) (fun h0 K E p e s m args below meth c H locs cells slots ls X hxt hmn hw hR hl => ?_)
  have hx := X.hx
  have hb := X.hb
  unfold w_X13_init at hw
  refine r_aload_n X dX13_init_0 rfl (lv_at hl 0 rfl) ?_
  refine r_aload_n X dX13_init_1 rfl (lv_at hl 1 rfl) ?_
  refine lv_iload_n hx hb dX13_init_2 rfl (lv_at hl 2 rfl) ?_
  refine r_callV X hR (c_I X hR hl.1 (c_X11_init l g v0 v1 v2) (lw_meth q777) q133 q800 q776 rfl mh_X11_init rfl (by decide) (by decide) rfl (cat4 (Nat.le_of_ble_eq_true rfl)) dX13_init_3 hw) (fun _ h H locs cells slots hR hw => ?_)
  exact r_vret X hR rfl dX13_init_6 hw
theorem c_X14_init (l : Launch) (g : GT) (v0 : Option Nat) (v1 : Option Nat) (v2 : Int32) : CT qV l yX14_init (ws_ yX14_init cX14_init 3 none) 3 g [va_rf v0, va_rf v1, .int v2] (fun K E h => w_X14_init g v0 v1 v2 K E h) := by
  refine CT_of (lv := [(0, va_rf v0), (1, va_rf v1), (2, .int v2)]) (by decide +kernel) (by simp [lg_sl, cat_rf, cat_int, cat_long]) (by simp [lv_args, cat_rf, cat_int, cat_long]) (fun h0 K E p e s m args below meth c H locs cells slots ls X hxt hmn hw hR hl => ?_)
  have hx := X.hx
  have hb := X.hb
  unfold w_X14_init at hw
  refine r_aload_n X dX14_init_0 rfl (lv_at hl 0 rfl) ?_
  refine r_aload_n X dX14_init_1 rfl (lv_at hl 1 rfl) ?_
  refine lv_iload_n hx hb dX14_init_2 rfl (lv_at hl 2 rfl) ?_
  refine r_callV X hR (c_I X hR hl.1 (c_X11_init l g v0 v1 v2) (lw_meth q777) q133 q810 q776 rfl mh_X11_init rfl (by decide) (by decide) rfl (cat4 (Nat.le_of_ble_eq_true rfl)) dX14_init_3 hw) (fun _ h H locs cells slots hR hw => ?_)
  exact r_vret X hR rfl dX14_init_6 hw
theorem c_X2_personOf (l : Launch) (g : GT) (v0 : Option Nat) (v1 : Option Nat) (v2 : Int32) : CT qR l yX2_personOf (ws_ yX2_personOf cX2_personOf 3 (Option.some (Jvm.ClassFile.FieldType.object "UmbrellaHeir$Person"))) 11 g [va_rf v0, va_rf v1, .int v2] (fun K E h => w_X2_personOf g v0 v1 v2 K E h) := by
  refine CT_of (lv := [(0, va_rf v0), (1, va_rf v1), (2, .int v2)]) (by decide +kernel) (by simp [lg_sl, cat_rf, cat_int, cat_long]) (by simp [lv_args, cat_rf, cat_int, cat_long]) (fun h0 K E p e s m args below meth c H locs cells slots ls X hxt hmn hw hR hl => ?_)
  have hx := X.hx
  have hb := X.hb
  unfold w_X2_personOf at hw
  refine r_aload_n X dX2_personOf_0 rfl (lv_at hl 0 rfl) ?_
  refine r_ldcS X (tx := "plain") (List.mem_of_getElem? (i := 12) rfl) dX2_personOf_1 ?_
  refine r_callI X hR (c_V (ci := 2) (q := (RX2, TX2, 10)) X hR hl.1 (c_X2_takes l g v0 (some (g.2.2.2.1 12))) (lw_V q734 q736 qs11 q116 q737) rfl rfl mh_X2_takes rfl (by decide) (by decide) rfl (cat4 (Nat.le_of_ble_eq_true rfl)) dX2_personOf_3 hw) (fun x1 h H locs cells slots hR hw => ?_)
  refine lv_if_eq (tgt := 19) hx hb dX2_personOf_6 (by decide) (fun c2 => ?_) (fun c2 => ?_)
  · have hw := hw.1 c2
    refine r_aload_n X dX2_personOf_19 rfl (lv_at hl 0 rfl) ?_
    refine r_ldcS X (tx := "child") (List.mem_of_getElem? (i := 13) rfl) dX2_personOf_20 ?_
    refine r_callI X hR (c_V (ci := 2) (q := (RX2, TX2, 10)) X hR hl.1 (c_X2_takes l g v0 (some (g.2.2.2.1 13))) (lw_V q734 q736 qs11 q116 q737) rfl rfl mh_X2_takes rfl (by decide) (by decide) rfl (cat4 (Nat.le_of_ble_eq_true rfl)) dX2_personOf_22 hw) (fun x3 h H locs cells slots hR hw => ?_)
    refine lv_if_eq (tgt := 38) hx hb dX2_personOf_25 (by decide) (fun c4 => ?_) (fun c4 => ?_)
    · have hw := hw.1 c4
      refine r_aload_n X dX2_personOf_38 rfl (lv_at hl 0 rfl) ?_
      refine r_ldcS X (tx := "careless") (List.mem_of_getElem? (i := 14) rfl) dX2_personOf_39 ?_
      refine r_callVx X hxt hR (c_V (ci := 2) (q := (RX2, TX2, 10)) X hR hl.1 (c_X2_must l g v0 (some (g.2.2.2.1 14))) (lw_V q730 q732 qs10 q116 q733) rfl rfl mh_X2_must rfl (by decide) (by decide) rfl (cat4 (Nat.le_of_ble_eq_true rfl)) dX2_personOf_41 hw) (fun _ h H locs cells slots hR hw => ?_)
      refine r_new X hR nk_X2_201 dX2_personOf_44 hw (fun H cells slots x5 h hR hw => ?_)
      refine lv_dup hx hb dX2_personOf_47 (cat_rf _) ?_
      refine r_aload_n X dX2_personOf_48 rfl (lv_at hl 1 rfl) ?_
      refine lv_iload_n hx hb dX2_personOf_49 rfl (lv_at hl 2 rfl) ?_
      refine r_callV X hR (c_I X hR hl.1 (c_X14_init l g x5 v1 v2) (lw_meth q809) q136 q807 q808 rfl mh_X14_init rfl (by decide) (by decide) rfl (cat4 (Nat.le_of_ble_eq_true rfl)) dX2_personOf_50 hw) (fun _ h H locs cells slots hR hw => ?_)
      exact r_aret X (Or.inl ⟨_, rfl⟩) hR dX2_personOf_53 hw
    · have hw := hw.2 c4
      refine r_new X hR nk_X2_196 dX2_personOf_28 hw (fun H cells slots x6 h hR hw => ?_)
      refine lv_dup hx hb dX2_personOf_31 (cat_rf _) ?_
      refine r_aload_n X dX2_personOf_32 rfl (lv_at hl 1 rfl) ?_
      refine lv_iload_n hx hb dX2_personOf_33 rfl (lv_at hl 2 rfl) ?_
      refine r_callV X hR (c_I X hR hl.1 (c_X13_init l g x6 v1 v2) (lw_meth q799) q135 q797 q798 rfl mh_X13_init rfl (by decide) (by decide) rfl (cat4 (Nat.le_of_ble_eq_true rfl)) dX2_personOf_34 hw) (fun _ h H locs cells slots hR hw => ?_)
      exact r_aret X (Or.inl ⟨_, rfl⟩) hR dX2_personOf_37 hw
  · have hw := hw.2 c2
    refine r_new X hR nk_X2_189 dX2_personOf_9 hw (fun H cells slots x7 h hR hw => ?_)
    refine lv_dup hx hb dX2_personOf_12 (cat_rf _) ?_
    refine r_aload_n X dX2_personOf_13 rfl (lv_at hl 1 rfl) ?_
    refine lv_iload_n hx hb dX2_personOf_14 rfl (lv_at hl 2 rfl) ?_
    refine r_callV X hR (c_I X hR hl.1 (c_X12_init l g x7 v1 v2) (lw_meth q774) q134 q772 q773 rfl mh_X12_init rfl (by decide) (by decide) rfl (cat4 (Nat.le_of_ble_eq_true rfl)) dX2_personOf_15 hw) (fun _ h H locs cells slots hR hw => ?_)
    exact r_aret X (Or.inl ⟨_, rfl⟩) hR dX2_personOf_18 hw
theorem t_X2_personLine_J18 {p : Program} {l : Launch} {e : Env} {s : State} {m : MethodId} {args : Array Value} {below : List Frame} {meth : Method} {c : Code} {g : GT} {h0 : AH} {v0 : Option Nat} {s0 : Int32} {s1 : Option Nat} {K : Unit → AH → Prop} {E : Nat → AH → Prop} {h : AH} {H : Heap} {locs : List Loc} {cells slots : Nat} {ls : Array Slot} (X : Cx g h0 p s m args meth c RX2 cX2_personLine 1 none) (hxt : c.exceptionTable.toList = [])  (hw : w_X2_personLine_J18 g v0 s0 s1 K E h) (hR : HS g s h H locs) (hl : lv_has ls 1 [(0, va_rf v0)]) : W p l e (RM 12 h0) s m args below meth c H locs cells slots (MQT below g (qV K) E args s h0) (F0 m 18 ls [.int s0, va_rf s1]) := by
  have hx := X.hx
  have hb := X.hb
  unfold w_X2_personLine_J18 at hw
  refine r_callVx X hxt hR (c_V (ci := 2) (q := (RX2, TX2, 10)) X hR hl.1 (c_X2_begins l g s1 s0) (lw_V q748 q750 qs14 q116 q751) rfl rfl mh_X2_begins rfl (by decide) (by decide) rfl (cat4 (Nat.le_of_ble_eq_true rfl)) dX2_personLine_18 hw) (fun _ h H locs cells slots hR hw => ?_)
  refine r_aload_n X dX2_personLine_21 rfl (lv_at hl 0 rfl) ?_
  refine r_gR X hR fk_X2_109 dX2_personLine_22 hw (fun x4 hw => ?_)
  refine r_gR X hR fk_X2_208 dX2_personLine_25 hw (fun x5 hw => ?_)
  refine r_aload_n X dX2_personLine_28 rfl (lv_at hl 0 rfl) ?_
  refine r_gR X hR fk_X2_109 dX2_personLine_29 hw (fun x6 hw => ?_)
  refine r_gI X hR fk_X2_144 dX2_personLine_32 hw (fun x7 hw => ?_)
  refine r_aload_n X dX2_personLine_35 rfl (lv_at hl 0 rfl) ?_
  refine r_aload_n X dX2_personLine_36 rfl (lv_at hl 0 rfl) ?_
  refine r_callRx X hxt hR (c_V (ci := 2) (q := (RX2, TX2, 10)) X hR hl.1 (c_X2_newName l g v0) (lw_V q752 q754 qs15 q116 q755) rfl rfl mh_X2_newName rfl (by decide) (by decide) rfl (cat4 (Nat.le_of_ble_eq_true rfl)) dX2_personLine_37 hw) (fun x8 h H locs cells slots hR hw => ?_)
  refine r_aload_n X dX2_personLine_40 rfl (lv_at hl 0 rfl) ?_
  refine r_gR X hR fk_X2_109 dX2_personLine_41 hw (fun x9 hw => ?_)
  refine r_gI X hR fk_X2_144 dX2_personLine_44 hw (fun x10 hw => ?_)
  refine r_callRx X hxt hR (c_V (ci := 2) (q := (RX2, TX2, 10)) X hR hl.1 (c_X2_personOf l g v0 x8 x10) (lw_V q765 q767 qs17 q116 q768) rfl rfl mh_X2_personOf rfl (by decide) (by decide) rfl (cat4 (Nat.le_of_ble_eq_true rfl)) dX2_personLine_47 hw) (fun x11 h H locs cells slots hR hw => ?_)
  refine r_aast X hR (t := 5) (by decide) (by decide) rfl ak_5 dX2_personLine_50 hw (fun H locs h hR hw => ?_)
  refine r_aload_n X dX2_personLine_51 rfl (lv_at hl 0 rfl) ?_
  refine r_gR X hR fk_X2_109 dX2_personLine_52 hw (fun x12 hw => ?_)
  refine lv_dup hx hb dX2_personLine_55 (cat_rf _) ?_
  refine r_gI X hR fk_X2_144 dX2_personLine_56 hw (fun x13 hw => ?_)
  refine lv_iconst (v := 1) hx hb dX2_personLine_59 (by decide) ?_
  refine lv_iadd hx hb dX2_personLine_60 ?_
  refine r_put X hR fp_X2_144 (Or.inl fn_X2_144) (nf_int _) dX2_personLine_61 hw (fun H locs h hR hw => ?_)
  exact r_vret X hR rfl dX2_personLine_64 hw
theorem c_X2_personLine (l : Launch) (g : GT) (v0 : Option Nat) : CT qV l yX2_personLine (ws_ yX2_personLine cX2_personLine 1 none) 12 g [va_rf v0] (fun K E h => w_X2_personLine g v0 K E h) := by
  refine CT_of (lv := [(0, va_rf v0)]) (by decide +kernel) (by simp [lg_sl, cat_rf, cat_int, cat_long]) (by simp [lv_args, cat_rf, cat_int, cat_long]) (fun h0 K E p e s m args below meth c H locs cells slots ls X hxt hmn hw hR hl => ?_)
  have hx := X.hx
  have hb := X.hb
  unfold w_X2_personLine at hw
  refine r_aload_n X dX2_personLine_0 rfl (lv_at hl 0 rfl) ?_
  refine r_aload_n X dX2_personLine_1 rfl (lv_at hl 0 rfl) ?_
  refine r_gR X hR fk_X2_109 dX2_personLine_2 hw (fun x1 hw => ?_)
  refine r_gI X hR fk_X2_144 dX2_personLine_5 hw (fun x2 hw => ?_)
  refine lv_bipush (v := 6) hx hb dX2_personLine_8 (by decide) ?_
  refine lv_icmp_ge (tgt := 17) hx hb dX2_personLine_10 (by decide) (fun c3 => ?_) (fun c3 => ?_)
  · have hw := hw.1 c3
    refine lv_iconst (v := 0) hx hb dX2_personLine_17 (by decide) ?_
    exact t_X2_personLine_J18 X hxt  hw hR (lv_sub hl [0] rfl)
  · have hw := hw.2 c3
    refine lv_iconst (v := 1) hx hb dX2_personLine_13 (by decide) ?_
    refine lv_goto (tgt := 18) hx hb dX2_personLine_14 (by decide) ?_
    exact t_X2_personLine_J18 X hxt  hw hR (lv_sub hl [0] rfl)
theorem c_X15_init (l : Launch) (g : GT) (v0 : Option Nat) (v1 : Option Nat) (v2 : Int32) : CT qV l yX15_init (ws_ yX15_init cX15_init 3 none) 2 g [va_rf v0, va_rf v1, .int v2] (fun K E h => w_X15_init g v0 v1 v2 K E h) := by
  refine CT_of (lv := [(0, va_rf v0), (1, va_rf v1), (2, .int v2)]) (by decide +kernel) (by simp [lg_sl, cat_rf, cat_int, cat_long]) (by simp [lv_args, cat_rf, cat_int, cat_long]) (fun h0 K E p e s m args below meth c H locs cells slots ls X hxt hmn hw hR hl => ?_)
  have hx := X.hx
  have hb := X.hb
  unfold w_X15_init at hw
  refine r_aload_n X dX15_init_0 rfl (lv_at hl 0 rfl) ?_
  refine r_aload_n X dX15_init_1 rfl (lv_at hl 1 rfl) ?_
  refine lv_iload_n hx hb dX15_init_2 rfl (lv_at hl 2 rfl) ?_
  refine r_callV X hR (c_I X hR hl.1 (c_X10_init l g v0 v1 v2) (lw_meth q780) q132 q831 q779 rfl mh_X10_init rfl (by decide) (by decide) rfl (cat4 (Nat.le_of_ble_eq_true rfl)) dX15_init_3 hw) (fun _ h H locs cells slots hR hw => ?_)
  refine r_aload_n X dX15_init_6 rfl (lv_at hl 0 rfl) ?_
  refine lv_bipush (v := (-2)) hx hb dX15_init_7 (by decide) ?_
  refine r_put X hR fp_X15_9 (Or.inl fn_X15_9) (nf_int _) dX15_init_9 hw (fun H locs h hR hw => ?_)
  exact r_vret X hR rfl dX15_init_12 hw
theorem c_X16_init (l : Launch) (g : GT) (v0 : Option Nat) (v1 : Option Nat) (v2 : Int32) : CT qV l yX16_init (ws_ yX16_init cX16_init 3 none) 3 g [va_rf v0, va_rf v1, .int v2] (fun K E h => w_X16_init g v0 v1 v2 K E h) := by
  refine CT_of (lv := [(0, va_rf v0), (1, va_rf v1), (2, .int v2)]) (by decide +kernel) (by simp [lg_sl, cat_rf, cat_int, cat_long]) (by simp [lv_args, cat_rf, cat_int, cat_long]) (fun h0 K E p e s m args below meth c H locs cells slots ls X hxt hmn hw hR hl => ?_)
  have hx := X.hx
  have hb := X.hb
  unfold w_X16_init at hw
  refine r_aload_n X dX16_init_0 rfl (lv_at hl 0 rfl) ?_
  refine r_aload_n X dX16_init_1 rfl (lv_at hl 1 rfl) ?_
  refine lv_iload_n hx hb dX16_init_2 rfl (lv_at hl 2 rfl) ?_
  refine r_callV X hR (c_I X hR hl.1 (c_X15_init l g v0 v1 v2) (lw_meth q830) q137 q828 q829 rfl mh_X15_init rfl (by decide) (by decide) rfl (cat4 (Nat.le_of_ble_eq_true rfl)) dX16_init_3 hw) (fun _ h H locs cells slots hR hw => ?_)
  exact r_vret X hR rfl dX16_init_6 hw
theorem c_X17_init (l : Launch) (g : GT) (v0 : Option Nat) (v1 : Option Nat) (v2 : Int32) : CT qV l yX17_init (ws_ yX17_init cX17_init 3 none) 3 g [va_rf v0, va_rf v1, .int v2] (fun K E h => w_X17_init g v0 v1 v2 K E h) := by
  refine CT_of (lv := [(0, va_rf v0), (1, va_rf v1), (2, .int v2)]) (by decide +kernel) (by simp [lg_sl, cat_rf, cat_int, cat_long]) (by simp [lv_args, cat_rf, cat_int, cat_long]) (fun h0 K E p e s m args below meth c H locs cells slots ls X hxt hmn hw hR hl => ?_)
  have hx := X.hx
  have hb := X.hb
  unfold w_X17_init at hw
  refine r_aload_n X dX17_init_0 rfl (lv_at hl 0 rfl) ?_
  refine r_aload_n X dX17_init_1 rfl (lv_at hl 1 rfl) ?_
  refine lv_iload_n hx hb dX17_init_2 rfl (lv_at hl 2 rfl) ?_
  refine r_callV X hR (c_I X hR hl.1 (c_X15_init l g v0 v1 v2) (lw_meth q830) q137 q858 q829 rfl mh_X15_init rfl (by decide) (by decide) rfl (cat4 (Nat.le_of_ble_eq_true rfl)) dX17_init_3 hw) (fun _ h H locs cells slots hR hw => ?_)
  exact r_vret X hR rfl dX17_init_6 hw
theorem c_X18_init (l : Launch) (g : GT) (v0 : Option Nat) (v1 : Option Nat) (v2 : Int32) : CT qV l yX18_init (ws_ yX18_init cX18_init 3 none) 3 g [va_rf v0, va_rf v1, .int v2] (fun K E h => w_X18_init g v0 v1 v2 K E h) := by
  refine CT_of (lv := [(0, va_rf v0), (1, va_rf v1), (2, .int v2)]) (by decide +kernel) (by simp [lg_sl, cat_rf, cat_int, cat_long]) (by simp [lv_args, cat_rf, cat_int, cat_long]) (fun h0 K E p e s m args below meth c H locs cells slots ls X hxt hmn hw hR hl => ?_)
  have hx := X.hx
  have hb := X.hb
  unfold w_X18_init at hw
  refine r_aload_n X dX18_init_0 rfl (lv_at hl 0 rfl) ?_
  refine r_aload_n X dX18_init_1 rfl (lv_at hl 1 rfl) ?_
  refine lv_iload_n hx hb dX18_init_2 rfl (lv_at hl 2 rfl) ?_
  refine r_callV X hR (c_I X hR hl.1 (c_X15_init l g v0 v1 v2) (lw_meth q830) q137 q871 q829 rfl mh_X15_init rfl (by decide) (by decide) rfl (cat4 (Nat.le_of_ble_eq_true rfl)) dX18_init_3 hw) (fun _ h H locs cells slots hR hw => ?_)
  exact r_vret X hR rfl dX18_init_6 hw
theorem c_X19_init (l : Launch) (g : GT) (v0 : Option Nat) (v1 : Option Nat) (v2 : Int32) : CT qV l yX19_init (ws_ yX19_init cX19_init 3 none) 3 g [va_rf v0, va_rf v1, .int v2] (fun K E h => w_X19_init g v0 v1 v2 K E h) := by
  refine CT_of (lv := [(0, va_rf v0), (1, va_rf v1), (2, .int v2)]) (by decide +kernel) (by simp [lg_sl, cat_rf, cat_int, cat_long]) (by simp [lv_args, cat_rf, cat_int, cat_long]) (fun h0 K E p e s m args below meth c H locs cells slots ls X hxt hmn hw hR hl => ?_)
  have hx := X.hx
  have hb := X.hb
  unfold w_X19_init at hw
  refine r_aload_n X dX19_init_0 rfl (lv_at hl 0 rfl) ?_
  refine r_aload_n X dX19_init_1 rfl (lv_at hl 1 rfl) ?_
  refine lv_iload_n hx hb dX19_init_2 rfl (lv_at hl 2 rfl) ?_
  refine r_callV X hR (c_I X hR hl.1 (c_X15_init l g v0 v1 v2) (lw_meth q830) q137 q884 q829 rfl mh_X15_init rfl (by decide) (by decide) rfl (cat4 (Nat.le_of_ble_eq_true rfl)) dX19_init_3 hw) (fun _ h H locs cells slots hR hw => ?_)
  exact r_vret X hR rfl dX19_init_6 hw
theorem c_X2_umbrellaOf (l : Launch) (g : GT) (v0 : Option Nat) (v1 : Option Nat) (v2 : Int32) : CT qR l yX2_umbrellaOf (ws_ yX2_umbrellaOf cX2_umbrellaOf 3 (Option.some (Jvm.ClassFile.FieldType.object "UmbrellaHeir$Umbrella"))) 11 g [va_rf v0, va_rf v1, .int v2] (fun K E h => w_X2_umbrellaOf g v0 v1 v2 K E h) := by
  refine CT_of (lv := [(0, va_rf v0), (1, va_rf v1), (2, .int v2)]) (by decide +kernel) (by simp [lg_sl, cat_rf, cat_int, cat_long]) (by simp [lv_args, cat_rf, cat_int, cat_long]) (fun h0 K E p e s m args below meth c H locs cells slots ls X hxt hmn hw hR hl => ?_)
  have hx := X.hx
  have hb := X.hb
  unfold w_X2_umbrellaOf at hw
  refine r_aload_n X dX2_umbrellaOf_0 rfl (lv_at hl 0 rfl) ?_
  refine r_ldcS X (tx := "silk") (List.mem_of_getElem? (i := 15) rfl) dX2_umbrellaOf_1 ?_
  refine r_callI X hR (c_V (ci := 2) (q := (RX2, TX2, 10)) X hR hl.1 (c_X2_takes l g v0 (some (g.2.2.2.1 15))) (lw_V q734 q736 qs11 q116 q737) rfl rfl mh_X2_takes rfl (by decide) (by decide) rfl (cat4 (Nat.le_of_ble_eq_true rfl)) dX2_umbrellaOf_3 hw) (fun x1 h H locs cells slots hR hw => ?_)
  refine lv_if_eq (tgt := 19) hx hb dX2_umbrellaOf_6 (by decide) (fun c2 => ?_) (fun c2 => ?_)
  · have hw := hw.1 c2
    refine r_aload_n X dX2_umbrellaOf_19 rfl (lv_at hl 0 rfl) ?_
    refine r_ldcS X (tx := "cotton") (List.mem_of_getElem? (i := 16) rfl) dX2_umbrellaOf_20 ?_
    refine r_callI X hR (c_V (ci := 2) (q := (RX2, TX2, 10)) X hR hl.1 (c_X2_takes l g v0 (some (g.2.2.2.1 16))) (lw_V q734 q736 qs11 q116 q737) rfl rfl mh_X2_takes rfl (by decide) (by decide) rfl (cat4 (Nat.le_of_ble_eq_true rfl)) dX2_umbrellaOf_22 hw) (fun x3 h H locs cells slots hR hw => ?_)
    refine lv_if_eq (tgt := 38) hx hb dX2_umbrellaOf_25 (by decide) (fun c4 => ?_) (fun c4 => ?_)
    · have hw := hw.1 c4
      refine r_aload_n X dX2_umbrellaOf_38 rfl (lv_at hl 0 rfl) ?_
      refine r_ldcS X (tx := "stick") (List.mem_of_getElem? (i := 17) rfl) dX2_umbrellaOf_39 ?_
      refine r_callI X hR (c_V (ci := 2) (q := (RX2, TX2, 10)) X hR hl.1 (c_X2_takes l g v0 (some (g.2.2.2.1 17))) (lw_V q734 q736 qs11 q116 q737) rfl rfl mh_X2_takes rfl (by decide) (by decide) rfl (cat4 (Nat.le_of_ble_eq_true rfl)) dX2_umbrellaOf_41 hw) (fun x5 h H locs cells slots hR hw => ?_)
      refine lv_if_eq (tgt := 57) hx hb dX2_umbrellaOf_44 (by decide) (fun c6 => ?_) (fun c6 => ?_)
      · have hw := hw.1 c6
        refine r_aload_n X dX2_umbrellaOf_57 rfl (lv_at hl 0 rfl) ?_
        refine r_ldcS X (tx := "parasol") (List.mem_of_getElem? (i := 18) rfl) dX2_umbrellaOf_58 ?_
        refine r_callVx X hxt hR (c_V (ci := 2) (q := (RX2, TX2, 10)) X hR hl.1 (c_X2_must l g v0 (some (g.2.2.2.1 18))) (lw_V q730 q732 qs10 q116 q733) rfl rfl mh_X2_must rfl (by decide) (by decide) rfl (cat4 (Nat.le_of_ble_eq_true rfl)) dX2_umbrellaOf_60 hw) (fun _ h H locs cells slots hR hw => ?_)
        refine r_new X hR nk_X2_237 dX2_umbrellaOf_63 hw (fun H cells slots x7 h hR hw => ?_)
        refine lv_dup hx hb dX2_umbrellaOf_66 (cat_rf _) ?_
        refine r_aload_n X dX2_umbrellaOf_67 rfl (lv_at hl 1 rfl) ?_
        refine lv_iload_n hx hb dX2_umbrellaOf_68 rfl (lv_at hl 2 rfl) ?_
        refine r_callV X hR (c_I X hR hl.1 (c_X19_init l g x7 v1 v2) (lw_meth q883) q141 q881 q882 rfl mh_X19_init rfl (by decide) (by decide) rfl (cat4 (Nat.le_of_ble_eq_true rfl)) dX2_umbrellaOf_69 hw) (fun _ h H locs cells slots hR hw => ?_)
        exact r_aret X (Or.inl ⟨_, rfl⟩) hR dX2_umbrellaOf_72 hw
      · have hw := hw.2 c6
        refine r_new X hR nk_X2_232 dX2_umbrellaOf_47 hw (fun H cells slots x8 h hR hw => ?_)
        refine lv_dup hx hb dX2_umbrellaOf_50 (cat_rf _) ?_
        refine r_aload_n X dX2_umbrellaOf_51 rfl (lv_at hl 1 rfl) ?_
        refine lv_iload_n hx hb dX2_umbrellaOf_52 rfl (lv_at hl 2 rfl) ?_
        refine r_callV X hR (c_I X hR hl.1 (c_X18_init l g x8 v1 v2) (lw_meth q870) q140 q868 q869 rfl mh_X18_init rfl (by decide) (by decide) rfl (cat4 (Nat.le_of_ble_eq_true rfl)) dX2_umbrellaOf_53 hw) (fun _ h H locs cells slots hR hw => ?_)
        exact r_aret X (Or.inl ⟨_, rfl⟩) hR dX2_umbrellaOf_56 hw
    · have hw := hw.2 c4
      refine r_new X hR nk_X2_227 dX2_umbrellaOf_28 hw (fun H cells slots x9 h hR hw => ?_)
      refine lv_dup hx hb dX2_umbrellaOf_31 (cat_rf _) ?_
      refine r_aload_n X dX2_umbrellaOf_32 rfl (lv_at hl 1 rfl) ?_
      refine lv_iload_n hx hb dX2_umbrellaOf_33 rfl (lv_at hl 2 rfl) ?_
      refine r_callV X hR (c_I X hR hl.1 (c_X17_init l g x9 v1 v2) (lw_meth q857) q139 q855 q856 rfl mh_X17_init rfl (by decide) (by decide) rfl (cat4 (Nat.le_of_ble_eq_true rfl)) dX2_umbrellaOf_34 hw) (fun _ h H locs cells slots hR hw => ?_)
      exact r_aret X (Or.inl ⟨_, rfl⟩) hR dX2_umbrellaOf_37 hw
  · have hw := hw.2 c2
    refine r_new X hR nk_X2_222 dX2_umbrellaOf_9 hw (fun H cells slots x10 h hR hw => ?_)
    refine lv_dup hx hb dX2_umbrellaOf_12 (cat_rf _) ?_
    refine r_aload_n X dX2_umbrellaOf_13 rfl (lv_at hl 1 rfl) ?_
    refine lv_iload_n hx hb dX2_umbrellaOf_14 rfl (lv_at hl 2 rfl) ?_
    refine r_callV X hR (c_I X hR hl.1 (c_X16_init l g x10 v1 v2) (lw_meth q827) q138 q825 q826 rfl mh_X16_init rfl (by decide) (by decide) rfl (cat4 (Nat.le_of_ble_eq_true rfl)) dX2_umbrellaOf_15 hw) (fun _ h H locs cells slots hR hw => ?_)
    exact r_aret X (Or.inl ⟨_, rfl⟩) hR dX2_umbrellaOf_18 hw
theorem c_X2_person (l : Launch) (g : GT) (v0 : Option Nat) : CT qI l yX2_person (ws_ yX2_person cX2_person 2 (Option.some Jvm.ClassFile.FieldType.int)) 9 g [va_rf v0] (fun K E h => w_X2_person g v0 K E h) := by
  refine CT_of (lv := [(0, va_rf v0)]) (by decide +kernel) (by simp [lg_sl, cat_rf, cat_int, cat_long]) (by simp [lv_args, cat_rf, cat_int, cat_long]) (fun h0 K E p e s m args below meth c H locs cells slots ls X hxt hmn hw hR hl => ?_)
  have hx := X.hx
  have hb := X.hb
  unfold w_X2_person at hw
  refine r_aload_n X dX2_person_0 rfl (lv_at hl 0 rfl) ?_
  refine r_callVx X hxt hR (c_V (ci := 2) (q := (RX2, TX2, 10)) X hR hl.1 (c_X2_mustName l g v0) (lw_V q756 q758 qs16 q116 q759) rfl rfl mh_X2_mustName rfl (by decide) (by decide) rfl (cat4 (Nat.le_of_ble_eq_true rfl)) dX2_person_1 hw) (fun _ h H locs cells slots hR hw => ?_)
  refine r_aload_n X dX2_person_4 rfl (lv_at hl 0 rfl) ?_
  refine r_gR X hR fk_X2_109 dX2_person_5 hw (fun x1 hw => ?_)
  refine r_aload_n X dX2_person_8 rfl (lv_at hl 0 rfl) ?_
  refine r_gR X hR fk_X2_61 dX2_person_9 hw (fun x2 hw => ?_)
  refine r_callR X hR (c_V (ci := 9) (q := (RX9, TX9, 11)) X hR hl.1 (c_X9_find l g x1 x2) (lw_V q760 q761 q762 q126 q763) rfl rfl mh_X9_find rfl (by decide) (by decide) rfl (cat4 (Nat.le_of_ble_eq_true rfl)) dX2_person_12 hw) (fun x3 h H locs cells slots hR hw => ?_)
  refine r_astore_n (i := 1) (lv' := [(1, va_rf x3), (0, va_rf v0)]) X dX2_person_15 rfl hl (by decide) (by simp [cat_rf, cat_int, cat_long]) (fun ls hl => ?_)
  refine r_aload_n X dX2_person_16 rfl (lv_at hl 0 rfl) ?_
  refine r_inst X hR q898 (List.forall_mem_cons.mpr ⟨⟨_, rfl, Or.inr q2294⟩, (List.forall_mem_cons.mpr ⟨⟨_, rfl, Or.inr q2293⟩, (List.forall_mem_cons.mpr ⟨⟨_, rfl, Or.inr q2292⟩, (fun _ h => absurd h List.not_mem_nil)⟩)⟩)⟩) (List.forall_mem_cons.mpr ⟨⟨_, rfl, List.mem_of_getElem? (i := 0) rfl⟩, (List.forall_mem_cons.mpr ⟨⟨_, rfl, List.mem_of_getElem? (i := 1) rfl⟩, (List.forall_mem_cons.mpr ⟨⟨_, rfl, List.mem_of_getElem? (i := 2) rfl⟩, (List.forall_mem_cons.mpr ⟨⟨_, rfl, List.mem_of_getElem? (i := 3) rfl⟩, (fun _ h => absurd h List.not_mem_nil)⟩)⟩)⟩)⟩) dX2_person_17 hw (fun x4 hw => ?_)
  refine lv_if_ne (tgt := 29) hx hb dX2_person_20 (by decide) (fun c5 => ?_) (fun c5 => ?_)
  · have hw := hw.1 c5
    refine r_aload_n X dX2_person_29 rfl (lv_at hl 1 rfl) ?_
    refine r_callV X hR (c_V (ci := 2) (q := (RX2, TX2, 10)) X hR hl.1 (c_X2_next l g v0) (lw_V q546 q548 qs4 q116 q549) rfl rfl mh_X2_next rfl (by decide) (by decide) rfl (cat4 (Nat.le_of_ble_eq_true rfl)) dX2_person_30 hw) (fun _ h H locs cells slots hR hw => ?_)
    refine r_aload_n X dX2_person_33 rfl (lv_at hl 0 rfl) ?_
    refine r_gI X hR fk_X2_120 dX2_person_34 hw (fun x6 hw => ?_)
    exact r_iret X hR dX2_person_37 hw
  · have hw := hw.2 c5
    refine r_aload_n X dX2_person_23 rfl (lv_at hl 1 rfl) ?_
    refine lv_iconst (v := 2) hx hb dX2_person_24 (by decide) ?_
    refine r_callR X hR (c_V (ci := 2) (q := (RX2, TX2, 10)) X hR hl.1 (c_X2_fail l g v0 2) (lw_V q644 q646 qs7 q116 q647) rfl rfl mh_X2_fail rfl (by decide) (by decide) rfl (cat4 (Nat.le_of_ble_eq_true rfl)) dX2_person_25 hw) (fun x7 h H locs cells slots hR hw => ?_)
    exact r_throw X hxt hR dX2_person_28 hw
theorem t_X2_umbrellaLine_J79 {p : Program} {l : Launch} {e : Env} {s : State} {m : MethodId} {args : Array Value} {below : List Frame} {meth : Method} {c : Code} {g : GT} {h0 : AH} {v0 : Option Nat} {v1 : Option Nat} {K : Unit → AH → Prop} {E : Nat → AH → Prop} {h : AH} {H : Heap} {locs : List Loc} {cells slots : Nat} {ls : Array Slot} (X : Cx g h0 p s m args meth c RX2 cX2_umbrellaLine 2 none) (hxt : c.exceptionTable.toList = [])  (hw : w_X2_umbrellaLine_J79 g v0 v1 K E h) (hR : HS g s h H locs) (hl : lv_has ls 2 [(0, va_rf v0), (1, va_rf v1)]) : W p l e (RM 12 h0) s m args below meth c H locs cells slots (MQT below g (qV K) E args s h0) (F0 m 79 ls []) := by
  have hx := X.hx
  have hb := X.hb
  unfold w_X2_umbrellaLine_J79 at hw
  refine r_aload_n X dX2_umbrellaLine_79 rfl (lv_at hl 0 rfl) ?_
  refine r_gR X hR fk_X2_109 dX2_umbrellaLine_80 hw (fun x12 hw => ?_)
  refine r_gR X hR fk_X2_259 dX2_umbrellaLine_83 hw (fun x13 hw => ?_)
  refine r_aload_n X dX2_umbrellaLine_86 rfl (lv_at hl 0 rfl) ?_
  refine r_gR X hR fk_X2_109 dX2_umbrellaLine_87 hw (fun x14 hw => ?_)
  refine r_gI X hR fk_X2_147 dX2_umbrellaLine_90 hw (fun x15 hw => ?_)
  refine r_aload_n X dX2_umbrellaLine_93 rfl (lv_at hl 1 rfl) ?_
  refine r_aast X hR (t := 6) (by decide) (by decide) rfl ak_6 dX2_umbrellaLine_94 hw (fun H locs h hR hw => ?_)
  refine r_aload_n X dX2_umbrellaLine_95 rfl (lv_at hl 0 rfl) ?_
  refine r_gR X hR fk_X2_109 dX2_umbrellaLine_96 hw (fun x16 hw => ?_)
  refine lv_dup hx hb dX2_umbrellaLine_99 (cat_rf _) ?_
  refine r_gI X hR fk_X2_147 dX2_umbrellaLine_100 hw (fun x17 hw => ?_)
  refine lv_iconst (v := 1) hx hb dX2_umbrellaLine_103 (by decide) ?_
  refine lv_iadd hx hb dX2_umbrellaLine_104 ?_
  refine r_put X hR fp_X2_147 (Or.inl fn_X2_147) (nf_int _) dX2_umbrellaLine_105 hw (fun H locs h hR hw => ?_)
  exact r_vret X hR rfl dX2_umbrellaLine_108 hw
theorem t_X2_umbrellaLine_J17 {p : Program} {l : Launch} {e : Env} {s : State} {m : MethodId} {args : Array Value} {below : List Frame} {meth : Method} {c : Code} {g : GT} {h0 : AH} {v0 : Option Nat} {s0 : Int32} {s1 : Option Nat} {K : Unit → AH → Prop} {E : Nat → AH → Prop} {h : AH} {H : Heap} {locs : List Loc} {cells slots : Nat} {ls : Array Slot} (X : Cx g h0 p s m args meth c RX2 cX2_umbrellaLine 2 none) (hxt : c.exceptionTable.toList = [])  (hw : w_X2_umbrellaLine_J17 g v0 s0 s1 K E h) (hR : HS g s h H locs) (hl : lv_has ls 2 [(0, va_rf v0)]) : W p l e (RM 12 h0) s m args below meth c H locs cells slots (MQT below g (qV K) E args s h0) (F0 m 17 ls [.int s0, va_rf s1]) := by
  have hx := X.hx
  have hb := X.hb
  unfold w_X2_umbrellaLine_J17 at hw
  refine r_callVx X hxt hR (c_V (ci := 2) (q := (RX2, TX2, 10)) X hR hl.1 (c_X2_begins l g s1 s0) (lw_V q748 q750 qs14 q116 q751) rfl rfl mh_X2_begins rfl (by decide) (by decide) rfl (cat4 (Nat.le_of_ble_eq_true rfl)) dX2_umbrellaLine_17 hw) (fun _ h H locs cells slots hR hw => ?_)
  refine r_aload_n X dX2_umbrellaLine_20 rfl (lv_at hl 0 rfl) ?_
  refine r_aload_n X dX2_umbrellaLine_21 rfl (lv_at hl 0 rfl) ?_
  refine r_callRx X hxt hR (c_V (ci := 2) (q := (RX2, TX2, 10)) X hR hl.1 (c_X2_newName l g v0) (lw_V q752 q754 qs15 q116 q755) rfl rfl mh_X2_newName rfl (by decide) (by decide) rfl (cat4 (Nat.le_of_ble_eq_true rfl)) dX2_umbrellaLine_22 hw) (fun x4 h H locs cells slots hR hw => ?_)
  refine r_aload_n X dX2_umbrellaLine_25 rfl (lv_at hl 0 rfl) ?_
  refine r_gR X hR fk_X2_109 dX2_umbrellaLine_26 hw (fun x5 hw => ?_)
  refine r_gI X hR fk_X2_147 dX2_umbrellaLine_29 hw (fun x6 hw => ?_)
  refine r_callRx X hxt hR (c_V (ci := 2) (q := (RX2, TX2, 10)) X hR hl.1 (c_X2_umbrellaOf l g v0 x4 x6) (lw_V q818 q820 qs19 q116 q821) rfl rfl mh_X2_umbrellaOf rfl (by decide) (by decide) rfl (cat4 (Nat.le_of_ble_eq_true rfl)) dX2_umbrellaLine_32 hw) (fun x7 h H locs cells slots hR hw => ?_)
  refine r_astore_n (i := 1) (lv' := [(1, va_rf x7), (0, va_rf v0)]) X dX2_umbrellaLine_35 rfl hl (by decide) (by simp [cat_rf, cat_int, cat_long]) (fun ls hl => ?_)
  refine r_aload_n X dX2_umbrellaLine_36 rfl (lv_at hl 0 rfl) ?_
  refine r_aload_n X dX2_umbrellaLine_37 rfl (lv_at hl 1 rfl) ?_
  refine r_ldcS X (tx := "lands") (List.mem_of_getElem? (i := 19) rfl) dX2_umbrellaLine_38 ?_
  refine lv_iconst (v := 0) hx hb dX2_umbrellaLine_40 (by decide) ?_
  refine lv_bipush (v := 99) hx hb dX2_umbrellaLine_41 (by decide) ?_
  refine r_callIx X hxt hR (c_V (ci := 2) (q := (RX2, TX2, 10)) X hR hl.1 (c_X2_after l g v0 (some (g.2.2.2.1 19)) 0 99) (lw_V q726 q728 qs9 q116 q729) rfl rfl mh_X2_after rfl (by decide) (by decide) rfl (cat4 (Nat.le_of_ble_eq_true rfl)) dX2_umbrellaLine_43 hw) (fun x8 h H locs cells slots hR hw => ?_)
  refine r_put X hR fp_X2_246 (Or.inl fn_X2_246) (nf_int _) dX2_umbrellaLine_46 hw (fun H locs h hR hw => ?_)
  refine r_aload_n X dX2_umbrellaLine_49 rfl (lv_at hl 0 rfl) ?_
  refine r_aload_n X dX2_umbrellaLine_50 rfl (lv_at hl 1 rfl) ?_
  refine r_ldcS X (tx := "ribs") (List.mem_of_getElem? (i := 20) rfl) dX2_umbrellaLine_51 ?_
  refine lv_iconst (v := 4) hx hb dX2_umbrellaLine_53 (by decide) ?_
  refine lv_bipush (v := 12) hx hb dX2_umbrellaLine_54 (by decide) ?_
  refine r_callIx X hxt hR (c_V (ci := 2) (q := (RX2, TX2, 10)) X hR hl.1 (c_X2_after l g v0 (some (g.2.2.2.1 20)) 4 12) (lw_V q726 q728 qs9 q116 q729) rfl rfl mh_X2_after rfl (by decide) (by decide) rfl (cat4 (Nat.le_of_ble_eq_true rfl)) dX2_umbrellaLine_56 hw) (fun x9 h H locs cells slots hR hw => ?_)
  refine r_put X hR fp_X2_250 (Or.inl fn_X2_250) (nf_int _) dX2_umbrellaLine_59 hw (fun H locs h hR hw => ?_)
  refine r_aload_n X dX2_umbrellaLine_62 rfl (lv_at hl 1 rfl) ?_
  refine r_ldcS X (tx := "with") (List.mem_of_getElem? (i := 21) rfl) dX2_umbrellaLine_63 ?_
  refine r_callI X hR (c_V (ci := 2) (q := (RX2, TX2, 10)) X hR hl.1 (c_X2_takes l g v0 (some (g.2.2.2.1 21))) (lw_V q734 q736 qs11 q116 q737) rfl rfl mh_X2_takes rfl (by decide) (by decide) rfl (cat4 (Nat.le_of_ble_eq_true rfl)) dX2_umbrellaLine_65 hw) (fun x10 h H locs cells slots hR hw => ?_)
  refine lv_if_eq (tgt := 79) hx hb dX2_umbrellaLine_68 (by decide) (fun c11 => ?_) (fun c11 => ?_)
  · have hw := hw.1 c11
    exact t_X2_umbrellaLine_J79 X hxt  hw hR (lv_sub hl [1, 0] rfl)
  · have hw := hw.2 c11
    refine r_aload_n X dX2_umbrellaLine_71 rfl (lv_at hl 0 rfl) ?_
    refine r_aload_n X dX2_umbrellaLine_72 rfl (lv_at hl 1 rfl) ?_
    refine r_callIx X hxt hR (c_V (ci := 2) (q := (RX2, TX2, 10)) X hR hl.1 (c_X2_person l g v0) (lw_V q894 q896 qs20 q116 q897) rfl rfl mh_X2_person rfl (by decide) (by decide) rfl (cat4 (Nat.le_of_ble_eq_true rfl)) dX2_umbrellaLine_73 hw) (fun x18 h H locs cells slots hR hw => ?_)
    refine r_put X hR fp_X2_256 (Or.inl fn_X2_256) (nf_int _) dX2_umbrellaLine_76 hw (fun H locs h hR hw => ?_)
    exact t_X2_umbrellaLine_J79 X hxt  hw hR (lv_sub hl [1, 0] rfl)
theorem c_X2_umbrellaLine (l : Launch) (g : GT) (v0 : Option Nat) : CT qV l yX2_umbrellaLine (ws_ yX2_umbrellaLine cX2_umbrellaLine 2 none) 12 g [va_rf v0] (fun K E h => w_X2_umbrellaLine g v0 K E h) := by
  refine CT_of (lv := [(0, va_rf v0)]) (by decide +kernel) (by simp [lg_sl, cat_rf, cat_int, cat_long]) (by simp [lv_args, cat_rf, cat_int, cat_long]) (fun h0 K E p e s m args below meth c H locs cells slots ls X hxt hmn hw hR hl => ?_)
  have hx := X.hx
  have hb := X.hb
  unfold w_X2_umbrellaLine at hw
  refine r_aload_n X dX2_umbrellaLine_0 rfl (lv_at hl 0 rfl) ?_
  refine r_aload_n X dX2_umbrellaLine_1 rfl (lv_at hl 0 rfl) ?_
  refine r_gR X hR fk_X2_109 dX2_umbrellaLine_2 hw (fun x1 hw => ?_)
  refine r_gI X hR fk_X2_147 dX2_umbrellaLine_5 hw (fun x2 hw => ?_)
  refine lv_iconst (v := 5) hx hb dX2_umbrellaLine_8 (by decide) ?_
  refine lv_icmp_ge (tgt := 16) hx hb dX2_umbrellaLine_9 (by decide) (fun c3 => ?_) (fun c3 => ?_)
  · have hw := hw.1 c3
    refine lv_iconst (v := 0) hx hb dX2_umbrellaLine_16 (by decide) ?_
    exact t_X2_umbrellaLine_J17 X hxt  hw hR (lv_sub hl [0] rfl)
  · have hw := hw.2 c3
    refine lv_iconst (v := 1) hx hb dX2_umbrellaLine_12 (by decide) ?_
    refine lv_goto (tgt := 17) hx hb dX2_umbrellaLine_13 (by decide) ?_
    exact t_X2_umbrellaLine_J17 X hxt  hw hR (lv_sub hl [0] rfl)
theorem c_X2_hasRoom (l : Launch) (g : GT) (v0 : Option Nat) : CT qI l yX2_hasRoom (ws_ yX2_hasRoom cX2_hasRoom 1 (Option.some Jvm.ClassFile.FieldType.boolean)) 1 g [va_rf v0] (fun K E h => w_X2_hasRoom g v0 K E h) := by
  refine CT_of (lv := [(0, va_rf v0)]) (by decide +kernel) (by simp [lg_sl, cat_rf, cat_int, cat_long]) (by simp [lv_args, cat_rf, cat_int, cat_long]) (fun h0 K E p e s m args below meth c H locs cells slots ls X hxt hmn hw hR hl => ?_)
  have hx := X.hx
  have hb := X.hb
  unfold w_X2_hasRoom at hw
  refine r_aload_n X dX2_hasRoom_0 rfl (lv_at hl 0 rfl) ?_
  refine r_gR X hR fk_X2_109 dX2_hasRoom_1 hw (fun x1 hw => ?_)
  refine r_gI X hR fk_X2_265 dX2_hasRoom_4 hw (fun x2 hw => ?_)
  refine lv_bipush (v := 16) hx hb dX2_hasRoom_7 (by decide) ?_
  refine lv_icmp_ge (tgt := 16) hx hb dX2_hasRoom_9 (by decide) (fun c3 => ?_) (fun c3 => ?_)
  · have hw := hw.1 c3
    refine lv_iconst (v := 0) hx hb dX2_hasRoom_16 (by decide) ?_
    exact r_zret X hR dX2_hasRoom_17 hw
  · have hw := hw.2 c3
    refine lv_iconst (v := 1) hx hb dX2_hasRoom_12 (by decide) ?_
    refine lv_goto (tgt := 17) hx hb dX2_hasRoom_13 (by decide) ?_
    exact r_zret X hR dX2_hasRoom_17 hw
theorem c_X2_umbrellaHere (l : Launch) (g : GT) (v0 : Option Nat) : CT qI l yX2_umbrellaHere (ws_ yX2_umbrellaHere cX2_umbrellaHere 2 (Option.some Jvm.ClassFile.FieldType.int)) 6 g [va_rf v0] (fun K E h => w_X2_umbrellaHere g v0 K E h) := by
  refine CT_of (lv := [(0, va_rf v0)]) (by decide +kernel) (by simp [lg_sl, cat_rf, cat_int, cat_long]) (by simp [lv_args, cat_rf, cat_int, cat_long]) (fun h0 K E p e s m args below meth c H locs cells slots ls X hxt hmn hw hR hl => ?_)
  have hx := X.hx
  have hb := X.hb
  unfold w_X2_umbrellaHere at hw
  refine r_aload_n X dX2_umbrellaHere_0 rfl (lv_at hl 0 rfl) ?_
  refine r_callVx X hxt hR (c_V (ci := 2) (q := (RX2, TX2, 10)) X hR hl.1 (c_X2_mustName l g v0) (lw_V q756 q758 qs16 q116 q759) rfl rfl mh_X2_mustName rfl (by decide) (by decide) rfl (cat4 (Nat.le_of_ble_eq_true rfl)) dX2_umbrellaHere_1 hw) (fun _ h H locs cells slots hR hw => ?_)
  refine r_aload_n X dX2_umbrellaHere_4 rfl (lv_at hl 0 rfl) ?_
  refine r_gR X hR fk_X2_109 dX2_umbrellaHere_5 hw (fun x1 hw => ?_)
  refine r_aload_n X dX2_umbrellaHere_8 rfl (lv_at hl 0 rfl) ?_
  refine r_gR X hR fk_X2_61 dX2_umbrellaHere_9 hw (fun x2 hw => ?_)
  refine r_callR X hR (c_V (ci := 9) (q := (RX9, TX9, 11)) X hR hl.1 (c_X9_find l g x1 x2) (lw_V q760 q761 q762 q126 q763) rfl rfl mh_X9_find rfl (by decide) (by decide) rfl (cat4 (Nat.le_of_ble_eq_true rfl)) dX2_umbrellaHere_12 hw) (fun x3 h H locs cells slots hR hw => ?_)
  refine r_astore_n (i := 1) (lv' := [(1, va_rf x3), (0, va_rf v0)]) X dX2_umbrellaHere_15 rfl hl (by decide) (by simp [cat_rf, cat_int, cat_long]) (fun ls hl => ?_)
  refine r_aload_n X dX2_umbrellaHere_16 rfl (lv_at hl 0 rfl) ?_
  refine r_inst X hR q915 (List.forall_mem_cons.mpr ⟨⟨_, rfl, Or.inr q2297⟩, (List.forall_mem_cons.mpr ⟨⟨_, rfl, Or.inr q2295⟩, (List.forall_mem_cons.mpr ⟨⟨_, rfl, Or.inr q2298⟩, (List.forall_mem_cons.mpr ⟨⟨_, rfl, Or.inr q2296⟩, (fun _ h => absurd h List.not_mem_nil)⟩)⟩)⟩)⟩) (List.forall_mem_cons.mpr ⟨⟨_, rfl, List.mem_of_getElem? (i := 4) rfl⟩, (List.forall_mem_cons.mpr ⟨⟨_, rfl, List.mem_of_getElem? (i := 5) rfl⟩, (List.forall_mem_cons.mpr ⟨⟨_, rfl, List.mem_of_getElem? (i := 6) rfl⟩, (fun _ h => absurd h List.not_mem_nil)⟩)⟩)⟩) dX2_umbrellaHere_17 hw (fun x4 hw => ?_)
  refine lv_if_ne (tgt := 29) hx hb dX2_umbrellaHere_20 (by decide) (fun c5 => ?_) (fun c5 => ?_)
  · have hw := hw.1 c5
    refine r_aload_n X dX2_umbrellaHere_29 rfl (lv_at hl 0 rfl) ?_
    refine r_gI X hR fk_X2_120 dX2_umbrellaHere_30 hw (fun x6 hw => ?_)
    exact r_iret X hR dX2_umbrellaHere_33 hw
  · have hw := hw.2 c5
    refine r_aload_n X dX2_umbrellaHere_23 rfl (lv_at hl 1 rfl) ?_
    refine lv_iconst (v := 2) hx hb dX2_umbrellaHere_24 (by decide) ?_
    refine r_callR X hR (c_V (ci := 2) (q := (RX2, TX2, 10)) X hR hl.1 (c_X2_fail l g v0 2) (lw_V q644 q646 qs7 q116 q647) rfl rfl mh_X2_fail rfl (by decide) (by decide) rfl (cat4 (Nat.le_of_ble_eq_true rfl)) dX2_umbrellaHere_25 hw) (fun x7 h H locs cells slots hR hw => ?_)
    exact r_throw X hxt hR dX2_umbrellaHere_28 hw
theorem c_X2_umbrella (l : Launch) (g : GT) (v0 : Option Nat) : CT qI l yX2_umbrella (ws_ yX2_umbrella cX2_umbrella 2 (Option.some Jvm.ClassFile.FieldType.int)) 9 g [va_rf v0] (fun K E h => w_X2_umbrella g v0 K E h) := by
  refine CT_of (lv := [(0, va_rf v0)]) (by decide +kernel) (by simp [lg_sl, cat_rf, cat_int, cat_long]) (by simp [lv_args, cat_rf, cat_int, cat_long]) (fun h0 K E p e s m args below meth c H locs cells slots ls X hxt hmn hw hR hl => ?_)
  have hx := X.hx
  have hb := X.hb
  unfold w_X2_umbrella at hw
  refine r_aload_n X dX2_umbrella_0 rfl (lv_at hl 0 rfl) ?_
  refine r_callIx X hxt hR (c_V (ci := 2) (q := (RX2, TX2, 10)) X hR hl.1 (c_X2_umbrellaHere l g v0) (lw_V q911 q913 qs24 q116 q914) rfl rfl mh_X2_umbrellaHere rfl (by decide) (by decide) rfl (cat4 (Nat.le_of_ble_eq_true rfl)) dX2_umbrella_1 hw) (fun x1 h H locs cells slots hR hw => ?_)
  refine lv_istore_n (i := 1) (lv' := [(1, .int x1), (0, va_rf v0)]) hx hb dX2_umbrella_4 rfl hl (by decide) (by simp [cat_rf, cat_int, cat_long]) (fun ls hl => ?_)
  refine r_aload_n X dX2_umbrella_5 rfl (lv_at hl 1 rfl) ?_
  refine r_callV X hR (c_V (ci := 2) (q := (RX2, TX2, 10)) X hR hl.1 (c_X2_next l g v0) (lw_V q546 q548 qs4 q116 q549) rfl rfl mh_X2_next rfl (by decide) (by decide) rfl (cat4 (Nat.le_of_ble_eq_true rfl)) dX2_umbrella_6 hw) (fun _ h H locs cells slots hR hw => ?_)
  refine lv_iload_n hx hb dX2_umbrella_9 rfl (lv_at hl 0 rfl) ?_
  exact r_iret X hR dX2_umbrella_10 hw
theorem c_X20_init (l : Launch) (g : GT) (v0 : Option Nat) (v1 : Int32) : CT qV l yX20_init (ws_ yX20_init cX20_init 2 none) 1 g [va_rf v0, .int v1] (fun K E h => w_X20_init g v0 v1 K E h) := by
  refine CT_of (lv := [(0, va_rf v0), (1, .int v1)]) (by decide +kernel) (by simp [lg_sl, cat_rf, cat_int, cat_long]) (by simp [lv_args, cat_rf, cat_int, cat_long]) (fun h0 K E p e s m args below meth c H locs cells slots ls X hxt hmn hw hR hl => ?_)
  have hx := X.hx
  have hb := X.hb
  unfold w_X20_init at hw
  refine r_aload_n X dX20_init_0 rfl (lv_at hl 0 rfl) ?_
  obtain ⟨z1, hw⟩ := hw
  refine r_objInit X hl.1 z1 q924 q158 q159 (by decide) (cat4 (Nat.le_of_ble_eq_true rfl)) dX20_init_1 ?_
  refine r_aload_n X dX20_init_4 rfl (lv_at hl 0 rfl) ?_
  refine lv_iload_n hx hb dX20_init_5 rfl (lv_at hl 1 rfl) ?_
  refine r_put X hR fp_X20_7 (Or.inr hmn) (nf_int _) dX20_init_6 hw (fun H locs h hR hw => ?_)
  exact r_vret X hR rfl dX20_init_9 hw
theorem c_X21_init (l : Launch) (g : GT) (v0 : Option Nat) (v1 : Int32) (v2 : Int32) : CT qV l yX21_init (ws_ yX21_init cX21_init 3 none) 2 g [va_rf v0, .int v1, .int v2] (fun K E h => w_X21_init g v0 v1 v2 K E h) := by
  refine CT_of (lv := [(0, va_rf v0), (1, .int v1), (2, .int v2)]) (by decide +kernel) (by simp [lg_sl, cat_rf, cat_int, cat_long]) (by simp [lv_args, cat_rf, cat_int, cat_long]) (fun h0 K E p e s m args below meth c H locs cells slots ls X hxt hmn hw hR hl => ?_)
  have hx := X.hx
  have hb := X.hb
  unfold w_X21_init at hw
  refine r_aload_n X dX21_init_0 rfl (lv_at hl 0 rfl) ?_
  refine lv_iload_n hx hb dX21_init_1 rfl (lv_at hl 1 rfl) ?_
  refine r_callV X hR (c_I X hR hl.1 (c_X20_init l g v0 v1) (lw_meth q923) q142 q921 q922 rfl mh_X20_init rfl (by decide) (by decide) rfl (cat4 (Nat.le_of_ble_eq_true rfl)) dX21_init_2 hw) (fun _ h H locs cells slots hR hw => ?_)
  refine r_aload_n X dX21_init_5 rfl (lv_at hl 0 rfl) ?_
  refine lv_iload_n hx hb dX21_init_6 rfl (lv_at hl 2 rfl) ?_
  refine r_put X hR fp_X21_7 (Or.inr hmn) (nf_int _) dX21_init_7 hw (fun H locs h hR hw => ?_)
  exact r_vret X hR rfl dX21_init_10 hw
