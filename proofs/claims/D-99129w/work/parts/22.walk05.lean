set_option maxRecDepth 100000
theorem t_X8_dangerOf_J119 {p : Program} {l : Launch} {e : Env} {s : State} {m : MethodId} {args : Array Value} {below : List Frame} {meth : Method} {c : Code} {g : GT} {h0 : AH} {v0 : Option Nat} {v1 : Int32} {v2 : Int32} {v3 : Int32} {K : Int32 → AH → Prop} {E : Nat → AH → Prop} {L35 : Int32 → Int32 → AH → Prop} {h : AH} {H : Heap} {locs : List Loc} {cells slots : Nat} {ls : Array Slot} (X : Cx g h0 p s m args meth c RX8 cX8_dangerOf 5 (Option.some Jvm.ClassFile.FieldType.int)) (k35 : ∀ {v2' : Int32} {v3' : Int32} {h : AH} {H : Heap} {locs : List Loc} {cells slots : Nat} {ls : Array Slot}, L35 v2' v3' h → HS g s h H locs → lv_has ls 5 [(0, va_rf v0), (1, .int v1), (2, .int (v2')), (3, .int (v3'))] → W p l e (RM 3 h0) s m args below meth c H locs cells slots (MQT below g (qI K) E args s h0) (F0 m 35 ls [])) (hw : w_X8_dangerOf_J119 g v0 v1 v2 v3 K E L35 h) (hR : HS g s h H locs) (hl : lv_has ls 5 [(0, va_rf v0), (1, .int v1), (2, .int v2), (3, .int v3)]) : W p l e (RM 3 h0) s m args below meth c H locs cells slots (MQT below g (qI K) E args s h0) (F0 m 119 ls []) := by
  have hx := X.hx
  have hb := X.hb
  unfold w_X8_dangerOf_J119 at hw
  refine r_iinc X (k := 3) (v := (v3 + 1)) (lv' := fun x23 => [(3, .int x23), (0, va_rf v0), (1, .int v1), (2, .int v2)]) dX8_dangerOf_119 hl rfl rfl (by decide) hw (fun _ => rfl) (fun x23 hw ls hl => ?_)
  refine lv_goto (tgt := 35) hx hb dX8_dangerOf_122 (by decide) ?_
  exact k35 hw hR (lv_sub hl [1, 2, 3, 0] rfl)
theorem t_X8_dangerOf_J117 {p : Program} {l : Launch} {e : Env} {s : State} {m : MethodId} {args : Array Value} {below : List Frame} {meth : Method} {c : Code} {g : GT} {h0 : AH} {v0 : Option Nat} {v1 : Int32} {v3 : Int32} {s0 : Int32} {s1 : Int32} {K : Int32 → AH → Prop} {E : Nat → AH → Prop} {L35 : Int32 → Int32 → AH → Prop} {h : AH} {H : Heap} {locs : List Loc} {cells slots : Nat} {ls : Array Slot} (X : Cx g h0 p s m args meth c RX8 cX8_dangerOf 5 (Option.some Jvm.ClassFile.FieldType.int)) (k35 : ∀ {v2' : Int32} {v3' : Int32} {h : AH} {H : Heap} {locs : List Loc} {cells slots : Nat} {ls : Array Slot}, L35 v2' v3' h → HS g s h H locs → lv_has ls 5 [(0, va_rf v0), (1, .int v1), (2, .int (v2')), (3, .int (v3'))] → W p l e (RM 3 h0) s m args below meth c H locs cells slots (MQT below g (qI K) E args s h0) (F0 m 35 ls [])) (hw : w_X8_dangerOf_J117 g v0 v1 v3 s0 s1 K E L35 h) (hR : HS g s h H locs) (hl : lv_has ls 5 [(0, va_rf v0), (1, .int v1), (3, .int v3)]) : W p l e (RM 3 h0) s m args below meth c H locs cells slots (MQT below g (qI K) E args s h0) (F0 m 117 ls [.int s0, .int s1]) := by
  have hx := X.hx
  have hb := X.hb
  unfold w_X8_dangerOf_J117 at hw
  refine lv_iadd hx hb dX8_dangerOf_117 ?_
  refine r_nmI hw (fun x22 hw => ?_)
  refine lv_istore_n (i := 2) (lv' := [(2, .int x22), (0, va_rf v0), (1, .int v1), (3, .int v3)]) hx hb dX8_dangerOf_118 rfl hl (by decide) rfl (fun ls hl => ?_)
  exact t_X8_dangerOf_J119 X k35 hw hR (lv_sub hl [1, 2, 0, 3] rfl)
theorem t_X8_dangerOf_L35 {p : Program} {l : Launch} {e : Env} {s : State} {m : MethodId} {args : Array Value} {below : List Frame} {meth : Method} {c : Code} {g : GT} {h0 : AH} {v0 : Option Nat} {v1 : Int32} {K : Int32 → AH → Prop} {E : Nat → AH → Prop} (X : Cx g h0 p s m args meth c RX8 cX8_dangerOf 5 (Option.some Jvm.ClassFile.FieldType.int))  : ∀ (n : Nat) {v2 : Int32} {v3 : Int32} {h : AH} {H : Heap} {locs : List Loc} {cells slots : Nat} {ls : Array Slot}, LpN2 (w_X8_dangerOf_L35 g v0 v1 K E) n v2 v3 h → HS g s h H locs → lv_has ls 5 [(0, va_rf v0), (1, .int v1), (2, .int v2), (3, .int v3)] → W p l e (RM 3 h0) s m args below meth c H locs cells slots (MQT below g (qI K) E args s h0) (F0 m 35 ls []) := by
  have hx := X.hx
  have hb := X.hb
  intro n
  induction n with
  | zero =>
    intro v2 v3 h H locs cells slots ls hw
    exact hw.elim
  | succ n k35 =>
    intro v2 v3 h H locs cells slots ls hw hR hl
    have hw : w_X8_dangerOf_L35 g v0 v1 K E (LpN2 (w_X8_dangerOf_L35 g v0 v1 K E) n) v2 v3 h := hw
    unfold w_X8_dangerOf_L35 at hw
    refine lv_iload_n hx hb dX8_dangerOf_35 rfl (lv_at hl 3 rfl) ?_
    refine r_aload_n X dX8_dangerOf_36 rfl (lv_at hl 0 rfl) ?_
    refine r_gR X hR fk_X8_316 dX8_dangerOf_37 hw (fun x4 hw => ?_)
    refine r_gI X hR fk_X8_191 dX8_dangerOf_40 hw (fun x5 hw => ?_)
    refine lv_icmp_ge (tgt := 125) hx hb dX8_dangerOf_43 (by decide) (fun c6 => ?_) (fun c6 => ?_)
    · have hw := hw.1 c6
      refine lv_iload_n hx hb dX8_dangerOf_125 rfl (lv_at hl 2 rfl) ?_
      exact r_iret X hR dX8_dangerOf_126 hw
    · have hw := hw.2 c6
      refine lv_iload_n hx hb dX8_dangerOf_46 rfl (lv_at hl 1 rfl) ?_
      refine lv_iload_n hx hb dX8_dangerOf_47 rfl (lv_at hl 3 rfl) ?_
      refine r_callI X hR (c_S X hR hl.1 (c_X8_bit l g v1 v3) (lw_S q2135 q2136 q125 q2137) mh_X8_bit rfl (by decide) (by decide) rfl (cat4 (Nat.le_of_ble_eq_true rfl)) dX8_dangerOf_48 hw) (fun x7 h H locs cells slots hR hw => ?_)
      refine lv_if_ne (tgt := 57) hx hb dX8_dangerOf_51 (by decide) (fun c8 => ?_) (fun c8 => ?_)
      · have hw := hw.1 c8
        refine r_aload_n X dX8_dangerOf_57 rfl (lv_at hl 0 rfl) ?_
        refine r_gR X hR fk_X8_36 dX8_dangerOf_58 hw (fun x9 hw => ?_)
        refine lv_iload_n hx hb dX8_dangerOf_61 rfl (lv_at hl 3 rfl) ?_
        refine r_iald X hR dX8_dangerOf_62 hw (fun x10 hw => ?_)
        refine lv_istore (i := 4) (lv' := [(4, .int x10), (0, va_rf v0), (1, .int v1), (2, .int v2), (3, .int v3)]) hx hb dX8_dangerOf_63 hl (by decide) rfl (fun ls hl => ?_)
        refine r_aload_n X dX8_dangerOf_65 rfl (lv_at hl 1 rfl) ?_
        refine r_gR X hR fk_X8_42 dX8_dangerOf_66 hw (fun x11 hw => ?_)
        refine lv_iload hx hb dX8_dangerOf_69 (lv_at hl 0 rfl) ?_
        refine lv_dup2_11 hx hb dX8_dangerOf_71 rfl (cat_rf _) ?_
        refine r_iald X hR dX8_dangerOf_72 hw (fun x12 hw => ?_)
        refine lv_iconst (v := 1) hx hb dX8_dangerOf_73 (by decide) ?_
        refine lv_isub hx hb dX8_dangerOf_74 ?_
        refine r_iast X hR dX8_dangerOf_75 hw (fun H locs h hR hw => ?_)
        refine r_aload_n X dX8_dangerOf_76 rfl (lv_at hl 1 rfl) ?_
        refine r_gR X hR fk_X8_42 dX8_dangerOf_77 hw (fun x13 hw => ?_)
        refine lv_iload hx hb dX8_dangerOf_80 (lv_at hl 0 rfl) ?_
        refine r_iald X hR dX8_dangerOf_82 hw (fun x14 hw => ?_)
        refine lv_if_ge (tgt := 89) hx hb dX8_dangerOf_83 (by decide) (fun c15 => ?_) (fun c15 => ?_)
        · have hw := hw.1 c15
          refine lv_iload_n hx hb dX8_dangerOf_89 rfl (lv_at hl 3 rfl) ?_
          refine r_aload_n X dX8_dangerOf_90 rfl (lv_at hl 1 rfl) ?_
          refine r_gR X hR fk_X8_17 dX8_dangerOf_91 hw (fun x16 hw => ?_)
          refine lv_iconst (v := 5) hx hb dX8_dangerOf_94 (by decide) ?_
          refine lv_iload hx hb dX8_dangerOf_95 (lv_at hl 0 rfl) ?_
          refine lv_iadd hx hb dX8_dangerOf_97 ?_
          refine r_iald X hR dX8_dangerOf_98 hw (fun x17 hw => ?_)
          refine lv_iload_n hx hb dX8_dangerOf_99 rfl (lv_at hl 4 rfl) ?_
          refine lv_icmp_ne (tgt := 107) hx hb dX8_dangerOf_100 (by decide) (fun c18 => ?_) (fun c18 => ?_)
          · have hw := hw.1 c18
            refine r_aload_n X dX8_dangerOf_107 rfl (lv_at hl 1 rfl) ?_
            refine r_gR X hR fk_X8_316 dX8_dangerOf_108 hw (fun x19 hw => ?_)
            refine r_gR X hR fk_X8_273 dX8_dangerOf_111 hw (fun x20 hw => ?_)
            refine lv_iload hx hb dX8_dangerOf_114 (lv_at hl 0 rfl) ?_
            refine r_iald X hR dX8_dangerOf_116 hw (fun x21 hw => ?_)
            exact t_X8_dangerOf_J117 X k35 hw hR (lv_sub hl [1, 2, 4] rfl)
          · have hw := hw.2 c18
            refine lv_iconst (v := 0) hx hb dX8_dangerOf_103 (by decide) ?_
            refine lv_goto (tgt := 117) hx hb dX8_dangerOf_104 (by decide) ?_
            exact t_X8_dangerOf_J117 X k35 hw hR (lv_sub hl [1, 2, 4] rfl)
        · have hw := hw.2 c15
          refine lv_bipush (v := (-2)) hx hb dX8_dangerOf_86 (by decide) ?_
          exact r_iret X hR dX8_dangerOf_88 hw
      · have hw := hw.2 c8
        refine lv_goto (tgt := 119) hx hb dX8_dangerOf_54 (by decide) ?_
        exact t_X8_dangerOf_J119 X k35 hw hR (lv_sub hl [0, 1, 2, 3] rfl)
theorem t_X8_dangerOf_L4 {p : Program} {l : Launch} {e : Env} {s : State} {m : MethodId} {args : Array Value} {below : List Frame} {meth : Method} {c : Code} {g : GT} {h0 : AH} {v0 : Option Nat} {v1 : Int32} {v2 : Int32} {K : Int32 → AH → Prop} {E : Nat → AH → Prop} (X : Cx g h0 p s m args meth c RX8 cX8_dangerOf 5 (Option.some Jvm.ClassFile.FieldType.int))  : ∀ (n : Nat) {v3 : Int32} {h : AH} {H : Heap} {locs : List Loc} {cells slots : Nat} {ls : Array Slot}, LpN1 (w_X8_dangerOf_L4 g v0 v1 v2 K E) n v3 h → HS g s h H locs → lv_has ls 5 [(0, va_rf v0), (1, .int v1), (2, .int v2), (3, .int v3)] → W p l e (RM 3 h0) s m args below meth c H locs cells slots (MQT below g (qI K) E args s h0) (F0 m 4 ls []) := by
  have hx := X.hx
  have hb := X.hb
  intro n
  induction n with
  | zero =>
    intro v3 h H locs cells slots ls hw
    exact hw.elim
  | succ n k4 =>
    intro v3 h H locs cells slots ls hw hR hl
    have hw : w_X8_dangerOf_L4 g v0 v1 v2 K E (LpN1 (w_X8_dangerOf_L4 g v0 v1 v2 K E) n) v3 h := hw
    unfold w_X8_dangerOf_L4 at hw
    refine lv_iload_n hx hb dX8_dangerOf_4 rfl (lv_at hl 3 rfl) ?_
    refine r_aload_n X dX8_dangerOf_5 rfl (lv_at hl 0 rfl) ?_
    refine r_gR X hR fk_X8_316 dX8_dangerOf_6 hw (fun x1 hw => ?_)
    refine r_gI X hR fk_X8_194 dX8_dangerOf_9 hw (fun x2 hw => ?_)
    refine lv_icmp_ge (tgt := 33) hx hb dX8_dangerOf_12 (by decide) (fun c3 => ?_) (fun c3 => ?_)
    · have hw := hw.1 c3
      refine lv_iconst (v := 0) hx hb dX8_dangerOf_33 (by decide) ?_
      refine lv_istore_n (i := 3) (lv' := [(3, .int 0), (0, va_rf v0), (1, .int v1), (2, .int v2)]) hx hb dX8_dangerOf_34 rfl hl (by decide) rfl (fun ls hl => ?_)
      obtain ⟨n, hw⟩ := hw
      exact t_X8_dangerOf_L35 X  n hw hR (lv_sub hl [1, 2, 3, 0] rfl)
    · have hw := hw.2 c3
      refine r_aload_n X dX8_dangerOf_15 rfl (lv_at hl 0 rfl) ?_
      refine r_gR X hR fk_X8_42 dX8_dangerOf_16 hw (fun x24 hw => ?_)
      refine lv_iload_n hx hb dX8_dangerOf_19 rfl (lv_at hl 3 rfl) ?_
      refine r_aload_n X dX8_dangerOf_20 rfl (lv_at hl 0 rfl) ?_
      refine lv_iload_n hx hb dX8_dangerOf_21 rfl (lv_at hl 3 rfl) ?_
      refine lv_iload_n hx hb dX8_dangerOf_22 rfl (lv_at hl 1 rfl) ?_
      refine r_callI X hR (c_V (ci := 8) (q := (RX8, TX8, 32)) X hR hl.1 (c_X8_roomOf l g v0 v3 v1) (lw_V q2131 q2133 qs102 q125 q2134) rfl rfl mh_X8_roomOf rfl (by decide) (by decide) rfl (cat4 (Nat.le_of_ble_eq_true rfl)) dX8_dangerOf_23 hw) (fun x25 h H locs cells slots hR hw => ?_)
      refine r_iast X hR dX8_dangerOf_26 hw (fun H locs h hR hw => ?_)
      refine r_iinc X (k := 3) (v := (v3 + 1)) (lv' := fun x26 => [(3, .int x26), (0, va_rf v0), (1, .int v1), (2, .int v2)]) dX8_dangerOf_27 hl rfl rfl (by decide) hw (fun _ => rfl) (fun x26 hw ls hl => ?_)
      refine lv_goto (tgt := 4) hx hb dX8_dangerOf_30 (by decide) ?_
      exact k4 hw hR (lv_sub hl [1, 2, 3, 0] rfl)
theorem c_X8_dangerOf (l : Launch) (g : GT) (v0 : Option Nat) (v1 : Int32) : CT qI l yX8_dangerOf (ws_ yX8_dangerOf cX8_dangerOf 5 (Option.some Jvm.ClassFile.FieldType.int)) 3 g [va_rf v0, .int v1] (fun K E h => w_X8_dangerOf g v0 v1 K E h) := by
  refine CT_of (lv := [(0, va_rf v0), (1, .int v1)]) (by decide +kernel) (by simp [lg_sl, cat_rf, cat_int, cat_long]) (by simp [lv_args, cat_rf, cat_int, cat_long]) (fun h0 K E p e s m args below meth c H locs cells slots ls X hxt hmn hw hR hl => ?_)
  have hx := X.hx
  have hb := X.hb
  unfold w_X8_dangerOf at hw
  refine lv_iconst (v := 0) hx hb dX8_dangerOf_0 (by decide) ?_
  refine lv_istore_n (i := 2) (lv' := [(2, .int 0), (0, va_rf v0), (1, .int v1)]) hx hb dX8_dangerOf_1 rfl hl (by decide) rfl (fun ls hl => ?_)
  refine lv_iconst (v := 0) hx hb dX8_dangerOf_2 (by decide) ?_
  refine lv_istore_n (i := 3) (lv' := [(3, .int 0), (2, .int 0), (0, va_rf v0), (1, .int v1)]) hx hb dX8_dangerOf_3 rfl hl (by decide) rfl (fun ls hl => ?_)
  obtain ⟨n, hw⟩ := hw
  exact t_X8_dangerOf_L4 X  n hw hR (lv_sub hl [2, 3, 1, 0] rfl)
theorem t_X8_nextUnder_J60 {p : Program} {l : Launch} {e : Env} {s : State} {m : MethodId} {args : Array Value} {below : List Frame} {meth : Method} {c : Code} {g : GT} {h0 : AH} {v0 : Option Nat} {v1 : Int32} {v2 : Int32} {K : Int32 → AH → Prop} {E : Nat → AH → Prop} {L10 : Int32 → AH → Prop} {h : AH} {H : Heap} {locs : List Loc} {cells slots : Nat} {ls : Array Slot} (X : Cx g h0 p s m args meth c RX8 cX8_nextUnder 3 (Option.some Jvm.ClassFile.FieldType.boolean)) (k10 : ∀ {v2' : Int32} {h : AH} {H : Heap} {locs : List Loc} {cells slots : Nat} {ls : Array Slot}, L10 v2' h → HS g s h H locs → lv_has ls 3 [(0, va_rf v0), (1, .int v1), (2, .int (v2'))] → W p l e (RM 2 h0) s m args below meth c H locs cells slots (MQT below g (qI K) E args s h0) (F0 m 10 ls [])) (hw : w_X8_nextUnder_J60 g v0 v1 v2 K E L10 h) (hR : HS g s h H locs) (hl : lv_has ls 3 [(0, va_rf v0), (1, .int v1), (2, .int v2)]) : W p l e (RM 2 h0) s m args below meth c H locs cells slots (MQT below g (qI K) E args s h0) (F0 m 60 ls []) := by
  have hx := X.hx
  have hb := X.hb
  unfold w_X8_nextUnder_J60 at hw
  refine r_iinc X (k := 2) (v := (v2 + (-1))) (lv' := fun x15 => [(2, .int x15), (0, va_rf v0), (1, .int v1)]) dX8_nextUnder_60 hl rfl rfl (by decide) hw (fun _ => rfl) (fun x15 hw ls hl => ?_)
  refine lv_goto (tgt := 10) hx hb dX8_nextUnder_63 (by decide) ?_
  exact k10 hw hR (lv_sub hl [1, 2, 0] rfl)
theorem t_X8_nextUnder_L10 {p : Program} {l : Launch} {e : Env} {s : State} {m : MethodId} {args : Array Value} {below : List Frame} {meth : Method} {c : Code} {g : GT} {h0 : AH} {v0 : Option Nat} {v1 : Int32} {K : Int32 → AH → Prop} {E : Nat → AH → Prop} (X : Cx g h0 p s m args meth c RX8 cX8_nextUnder 3 (Option.some Jvm.ClassFile.FieldType.boolean))  : ∀ (n : Nat) {v2 : Int32} {h : AH} {H : Heap} {locs : List Loc} {cells slots : Nat} {ls : Array Slot}, LpN1 (w_X8_nextUnder_L10 g v0 v1 K E) n v2 h → HS g s h H locs → lv_has ls 3 [(0, va_rf v0), (1, .int v1), (2, .int v2)] → W p l e (RM 2 h0) s m args below meth c H locs cells slots (MQT below g (qI K) E args s h0) (F0 m 10 ls []) := by
  have hx := X.hx
  have hb := X.hb
  intro n
  induction n with
  | zero =>
    intro v2 h H locs cells slots ls hw
    exact hw.elim
  | succ n k10 =>
    intro v2 h H locs cells slots ls hw hR hl
    have hw : w_X8_nextUnder_L10 g v0 v1 K E (LpN1 (w_X8_nextUnder_L10 g v0 v1 K E) n) v2 h := hw
    unfold w_X8_nextUnder_L10 at hw
    refine lv_iload_n hx hb dX8_nextUnder_10 rfl (lv_at hl 2 rfl) ?_
    refine lv_if_lt (tgt := 66) hx hb dX8_nextUnder_11 (by decide) (fun c4 => ?_) (fun c4 => ?_)
    · have hw := hw.1 c4
      refine lv_iconst (v := 0) hx hb dX8_nextUnder_66 (by decide) ?_
      exact r_zret X hR dX8_nextUnder_67 hw
    · have hw := hw.2 c4
      refine lv_iload_n hx hb dX8_nextUnder_14 rfl (lv_at hl 1 rfl) ?_
      refine lv_iload_n hx hb dX8_nextUnder_15 rfl (lv_at hl 2 rfl) ?_
      refine r_callI X hR (c_S X hR hl.1 (c_X8_bit l g v1 v2) (lw_S q2135 q2136 q125 q2137) mh_X8_bit rfl (by decide) (by decide) rfl (cat4 (Nat.le_of_ble_eq_true rfl)) dX8_nextUnder_16 hw) (fun x5 h H locs cells slots hR hw => ?_)
      refine lv_if_ne (tgt := 25) hx hb dX8_nextUnder_19 (by decide) (fun c6 => ?_) (fun c6 => ?_)
      · have hw := hw.1 c6
        refine r_aload_n X dX8_nextUnder_25 rfl (lv_at hl 0 rfl) ?_
        refine r_gR X hR fk_X8_36 dX8_nextUnder_26 hw (fun x7 hw => ?_)
        refine lv_iload_n hx hb dX8_nextUnder_29 rfl (lv_at hl 2 rfl) ?_
        refine lv_dup2_11 hx hb dX8_nextUnder_30 rfl (cat_rf _) ?_
        refine r_iald X hR dX8_nextUnder_31 hw (fun x8 hw => ?_)
        refine lv_iconst (v := 1) hx hb dX8_nextUnder_32 (by decide) ?_
        refine lv_iadd hx hb dX8_nextUnder_33 ?_
        refine r_iast X hR dX8_nextUnder_34 hw (fun H locs h hR hw => ?_)
        refine r_aload_n X dX8_nextUnder_35 rfl (lv_at hl 0 rfl) ?_
        refine r_gR X hR fk_X8_36 dX8_nextUnder_36 hw (fun x9 hw => ?_)
        refine lv_iload_n hx hb dX8_nextUnder_39 rfl (lv_at hl 2 rfl) ?_
        refine r_iald X hR dX8_nextUnder_40 hw (fun x10 hw => ?_)
        refine r_aload_n X dX8_nextUnder_41 rfl (lv_at hl 0 rfl) ?_
        refine r_gR X hR fk_X8_316 dX8_nextUnder_42 hw (fun x11 hw => ?_)
        refine r_gI X hR fk_X8_194 dX8_nextUnder_45 hw (fun x12 hw => ?_)
        refine lv_icmp_ge (tgt := 53) hx hb dX8_nextUnder_48 (by decide) (fun c13 => ?_) (fun c13 => ?_)
        · have hw := hw.1 c13
          refine r_aload_n X dX8_nextUnder_53 rfl (lv_at hl 0 rfl) ?_
          refine r_gR X hR fk_X8_36 dX8_nextUnder_54 hw (fun x14 hw => ?_)
          refine lv_iload_n hx hb dX8_nextUnder_57 rfl (lv_at hl 2 rfl) ?_
          refine lv_iconst (v := 0) hx hb dX8_nextUnder_58 (by decide) ?_
          refine r_iast X hR dX8_nextUnder_59 hw (fun H locs h hR hw => ?_)
          exact t_X8_nextUnder_J60 X k10 hw hR (lv_sub hl [0, 1, 2] rfl)
        · have hw := hw.2 c13
          refine lv_iconst (v := 1) hx hb dX8_nextUnder_51 (by decide) ?_
          exact r_zret X hR dX8_nextUnder_52 hw
      · have hw := hw.2 c6
        refine lv_goto (tgt := 60) hx hb dX8_nextUnder_22 (by decide) ?_
        exact t_X8_nextUnder_J60 X k10 hw hR (lv_sub hl [0, 1, 2] rfl)
theorem c_X8_nextUnder (l : Launch) (g : GT) (v0 : Option Nat) (v1 : Int32) : CT qI l yX8_nextUnder (ws_ yX8_nextUnder cX8_nextUnder 3 (Option.some Jvm.ClassFile.FieldType.boolean)) 2 g [va_rf v0, .int v1] (fun K E h => w_X8_nextUnder g v0 v1 K E h) := by
  refine CT_of (lv := [(0, va_rf v0), (1, .int v1)]) (by decide +kernel) (by simp [lg_sl, cat_rf, cat_int, cat_long]) (by simp [lv_args, cat_rf, cat_int, cat_long]) (fun h0 K E p e s m args below meth c H locs cells slots ls X hxt hmn hw hR hl => ?_)
  have hx := X.hx
  have hb := X.hb
  unfold w_X8_nextUnder at hw
  refine r_aload_n X dX8_nextUnder_0 rfl (lv_at hl 0 rfl) ?_
  refine r_gR X hR fk_X8_316 dX8_nextUnder_1 hw (fun x1 hw => ?_)
  refine r_gI X hR fk_X8_191 dX8_nextUnder_4 hw (fun x2 hw => ?_)
  refine lv_iconst (v := 1) hx hb dX8_nextUnder_7 (by decide) ?_
  refine lv_isub hx hb dX8_nextUnder_8 ?_
  refine r_nmI hw (fun x3 hw => ?_)
  refine lv_istore_n (i := 2) (lv' := [(2, .int x3), (0, va_rf v0), (1, .int v1)]) hx hb dX8_nextUnder_9 rfl hl (by decide) rfl (fun ls hl => ?_)
  obtain ⟨n, hw⟩ := hw
  exact t_X8_nextUnder_L10 X  n hw hR (lv_sub hl [1, 2, 0] rfl)
theorem t_X8_parties_J97 {p : Program} {l : Launch} {e : Env} {s : State} {m : MethodId} {args : Array Value} {below : List Frame} {meth : Method} {c : Code} {g : GT} {h0 : AH} {v0 : Option Nat} {v1 : Int32} {K : Unit → AH → Prop} {E : Nat → AH → Prop} {L29 : Int32 → AH → Prop} {h : AH} {H : Heap} {locs : List Loc} {cells slots : Nat} {ls : Array Slot} (X : Cx g h0 p s m args meth c RX8 cX8_parties 5 none) (k29 : ∀ {v2' : Int32} {h : AH} {H : Heap} {locs : List Loc} {cells slots : Nat} {ls : Array Slot}, L29 v2' h → HS g s h H locs → lv_has ls 5 [(0, va_rf v0), (1, .int v1), (2, .int (v2'))] → W p l e (RM 4 h0) s m args below meth c H locs cells slots (MQT below g (qV K) E args s h0) (F0 m 29 ls [])) (hw : w_X8_parties_J97 g v0 v1 K E L29 h) (hR : HS g s h H locs) (hl : lv_has ls 5 [(0, va_rf v0), (1, .int v1)]) : W p l e (RM 4 h0) s m args below meth c H locs cells slots (MQT below g (qV K) E args s h0) (F0 m 97 ls []) := by
  have hx := X.hx
  have hb := X.hb
  unfold w_X8_parties_J97 at hw
  refine r_aload_n X dX8_parties_97 rfl (lv_at hl 0 rfl) ?_
  refine lv_iload_n hx hb dX8_parties_98 rfl (lv_at hl 1 rfl) ?_
  refine r_callI X hR (c_V (ci := 8) (q := (RX8, TX8, 32)) X hR hl.1 (c_X8_nextUnder l g v0 v1) (lw_V q2138 q2140 qs103 q125 q2141) rfl rfl mh_X8_nextUnder rfl (by decide) (by decide) rfl (cat4 (Nat.le_of_ble_eq_true rfl)) dX8_parties_99 hw) (fun x5 h H locs cells slots hR hw => ?_)
  refine lv_istore_n (i := 2) (lv' := [(2, .int x5), (0, va_rf v0), (1, .int v1)]) hx hb dX8_parties_102 rfl hl (by decide) rfl (fun ls hl => ?_)
  refine lv_goto (tgt := 29) hx hb dX8_parties_103 (by decide) ?_
  exact k29 hw hR (lv_sub hl [1, 2, 0] rfl)
theorem t_X8_parties_L70 {p : Program} {l : Launch} {e : Env} {s : State} {m : MethodId} {args : Array Value} {below : List Frame} {meth : Method} {c : Code} {g : GT} {h0 : AH} {v0 : Option Nat} {v1 : Int32} {K : Unit → AH → Prop} {E : Nat → AH → Prop} {L29 : Int32 → AH → Prop} (X : Cx g h0 p s m args meth c RX8 cX8_parties 5 none) (k29 : ∀ {v2' : Int32} {h : AH} {H : Heap} {locs : List Loc} {cells slots : Nat} {ls : Array Slot}, L29 v2' h → HS g s h H locs → lv_has ls 5 [(0, va_rf v0), (1, .int v1), (2, .int (v2'))] → W p l e (RM 4 h0) s m args below meth c H locs cells slots (MQT below g (qV K) E args s h0) (F0 m 29 ls [])) : ∀ (n : Nat) {v4 : Int32} {h : AH} {H : Heap} {locs : List Loc} {cells slots : Nat} {ls : Array Slot}, LpN1 (w_X8_parties_L70 g v0 v1 K E L29) n v4 h → HS g s h H locs → lv_has ls 5 [(0, va_rf v0), (1, .int v1), (4, .int v4)] → W p l e (RM 4 h0) s m args below meth c H locs cells slots (MQT below g (qV K) E args s h0) (F0 m 70 ls []) := by
  have hx := X.hx
  have hb := X.hb
  intro n
  induction n with
  | zero =>
    intro v4 h H locs cells slots ls hw
    exact hw.elim
  | succ n k70 =>
    intro v4 h H locs cells slots ls hw hR hl
    have hw : w_X8_parties_L70 g v0 v1 K E L29 (LpN1 (w_X8_parties_L70 g v0 v1 K E L29) n) v4 h := hw
    unfold w_X8_parties_L70 at hw
    refine lv_iload hx hb dX8_parties_70 (lv_at hl 2 rfl) ?_
    refine lv_bipush (v := 6) hx hb dX8_parties_72 (by decide) ?_
    refine lv_icmp_ge (tgt := 97) hx hb dX8_parties_74 (by decide) (fun c8 => ?_) (fun c8 => ?_)
    · have hw := hw.1 c8
      exact t_X8_parties_J97 X k29 hw hR (lv_sub hl [0, 1] rfl)
    · have hw := hw.2 c8
      refine r_aload_n X dX8_parties_77 rfl (lv_at hl 0 rfl) ?_
      refine r_gR X hR fk_X8_39 dX8_parties_78 hw (fun x9 hw => ?_)
      refine lv_iload hx hb dX8_parties_81 (lv_at hl 2 rfl) ?_
      refine r_aload_n X dX8_parties_83 rfl (lv_at hl 0 rfl) ?_
      refine r_gR X hR fk_X8_36 dX8_parties_84 hw (fun x10 hw => ?_)
      refine lv_iload hx hb dX8_parties_87 (lv_at hl 2 rfl) ?_
      refine r_iald X hR dX8_parties_89 hw (fun x11 hw => ?_)
      refine r_iast X hR dX8_parties_90 hw (fun H locs h hR hw => ?_)
      refine r_iinc X (k := 2) (v := (v4 + 1)) (lv' := fun x12 => [(4, .int x12), (0, va_rf v0), (1, .int v1)]) dX8_parties_91 hl rfl rfl (by decide) hw (fun _ => rfl) (fun x12 hw ls hl => ?_)
      refine lv_goto (tgt := 70) hx hb dX8_parties_94 (by decide) ?_
      exact k70 hw hR (lv_sub hl [1, 2, 0] rfl)
theorem t_X8_parties_J62 {p : Program} {l : Launch} {e : Env} {s : State} {m : MethodId} {args : Array Value} {below : List Frame} {meth : Method} {c : Code} {g : GT} {h0 : AH} {v0 : Option Nat} {v1 : Int32} {v3 : Int32} {K : Unit → AH → Prop} {E : Nat → AH → Prop} {L29 : Int32 → AH → Prop} {h : AH} {H : Heap} {locs : List Loc} {cells slots : Nat} {ls : Array Slot} (X : Cx g h0 p s m args meth c RX8 cX8_parties 5 none) (k29 : ∀ {v2' : Int32} {h : AH} {H : Heap} {locs : List Loc} {cells slots : Nat} {ls : Array Slot}, L29 v2' h → HS g s h H locs → lv_has ls 5 [(0, va_rf v0), (1, .int v1), (2, .int (v2'))] → W p l e (RM 4 h0) s m args below meth c H locs cells slots (MQT below g (qV K) E args s h0) (F0 m 29 ls [])) (hw : w_X8_parties_J62 g v0 v1 v3 K E L29 h) (hR : HS g s h H locs) (hl : lv_has ls 5 [(0, va_rf v0), (1, .int v1), (3, .int v3)]) : W p l e (RM 4 h0) s m args below meth c H locs cells slots (MQT below g (qV K) E args s h0) (F0 m 62 ls []) := by
  have hx := X.hx
  have hb := X.hb
  unfold w_X8_parties_J62 at hw
  refine r_aload_n X dX8_parties_62 rfl (lv_at hl 0 rfl) ?_
  refine lv_iload_n hx hb dX8_parties_63 rfl (lv_at hl 2 rfl) ?_
  refine r_put X hR fp_X8_421 (Or.inl fn_X8_421) (nf_int _) dX8_parties_64 hw (fun H locs h hR hw => ?_)
  refine lv_iconst (v := 0) hx hb dX8_parties_67 (by decide) ?_
  refine lv_istore (i := 4) (lv' := [(4, .int 0), (0, va_rf v0), (1, .int v1), (3, .int v3)]) hx hb dX8_parties_68 hl (by decide) rfl (fun ls hl => ?_)
  obtain ⟨n, hw⟩ := hw
  exact t_X8_parties_L70 X k29 n hw hR (lv_sub hl [1, 2, 0] rfl)
theorem t_X8_parties_L29 {p : Program} {l : Launch} {e : Env} {s : State} {m : MethodId} {args : Array Value} {below : List Frame} {meth : Method} {c : Code} {g : GT} {h0 : AH} {v0 : Option Nat} {v1 : Int32} {K : Unit → AH → Prop} {E : Nat → AH → Prop} (X : Cx g h0 p s m args meth c RX8 cX8_parties 5 none)  : ∀ (n : Nat) {v2 : Int32} {h : AH} {H : Heap} {locs : List Loc} {cells slots : Nat} {ls : Array Slot}, LpN1 (w_X8_parties_L29 g v0 v1 K E) n v2 h → HS g s h H locs → lv_has ls 5 [(0, va_rf v0), (1, .int v1), (2, .int v2)] → W p l e (RM 4 h0) s m args below meth c H locs cells slots (MQT below g (qV K) E args s h0) (F0 m 29 ls []) := by
  have hx := X.hx
  have hb := X.hb
  intro n
  induction n with
  | zero =>
    intro v2 h H locs cells slots ls hw
    exact hw.elim
  | succ n k29 =>
    intro v2 h H locs cells slots ls hw hR hl
    have hw : w_X8_parties_L29 g v0 v1 K E (LpN1 (w_X8_parties_L29 g v0 v1 K E) n) v2 h := hw
    unfold w_X8_parties_L29 at hw
    refine lv_iload_n hx hb dX8_parties_29 rfl (lv_at hl 2 rfl) ?_
    refine lv_if_eq (tgt := 106) hx hb dX8_parties_30 (by decide) (fun c2 => ?_) (fun c2 => ?_)
    · have hw := hw.1 c2
      exact r_vret X hR rfl dX8_parties_106 hw
    · have hw := hw.2 c2
      refine r_aload_n X dX8_parties_33 rfl (lv_at hl 0 rfl) ?_
      refine lv_iload_n hx hb dX8_parties_34 rfl (lv_at hl 1 rfl) ?_
      refine r_callI X hR (c_V (ci := 8) (q := (RX8, TX8, 32)) X hR hl.1 (c_X8_dangerOf l g v0 v1) (lw_V q2127 q2129 qs101 q125 q2130) rfl rfl mh_X8_dangerOf rfl (by decide) (by decide) rfl (cat4 (Nat.le_of_ble_eq_true rfl)) dX8_parties_35 hw) (fun x3 h H locs cells slots hR hw => ?_)
      refine lv_istore_n (i := 3) (lv' := [(3, .int x3), (0, va_rf v0), (1, .int v1), (2, .int v2)]) hx hb dX8_parties_38 rfl hl (by decide) rfl (fun ls hl => ?_)
      refine lv_iload_n hx hb dX8_parties_39 rfl (lv_at hl 0 rfl) ?_
      refine lv_bipush (v := (-2)) hx hb dX8_parties_40 (by decide) ?_
      refine lv_icmp_eq (tgt := 97) hx hb dX8_parties_42 (by decide) (fun c4 => ?_) (fun c4 => ?_)
      · have hw := hw.1 c4
        exact t_X8_parties_J97 X k29 hw hR (lv_sub hl [1, 2] rfl)
      · have hw := hw.2 c4
        refine r_aload_n X dX8_parties_45 rfl (lv_at hl 1 rfl) ?_
        refine r_gI X hR fk_X8_421 dX8_parties_46 hw (fun x6 hw => ?_)
        refine lv_bipush (v := (-2)) hx hb dX8_parties_49 (by decide) ?_
        refine lv_icmp_eq (tgt := 62) hx hb dX8_parties_51 (by decide) (fun c7 => ?_) (fun c7 => ?_)
        · have hw := hw.1 c7
          exact t_X8_parties_J62 X k29 hw hR (lv_sub hl [1, 2, 0] rfl)
        · have hw := hw.2 c7
          refine lv_iload_n hx hb dX8_parties_54 rfl (lv_at hl 0 rfl) ?_
          refine r_aload_n X dX8_parties_55 rfl (lv_at hl 1 rfl) ?_
          refine r_gI X hR fk_X8_421 dX8_parties_56 hw (fun x13 hw => ?_)
          refine lv_icmp_ge (tgt := 97) hx hb dX8_parties_59 (by decide) (fun c14 => ?_) (fun c14 => ?_)
          · have hw := hw.1 c14
            exact t_X8_parties_J97 X k29 hw hR (lv_sub hl [1, 2] rfl)
          · have hw := hw.2 c14
            exact t_X8_parties_J62 X k29 hw hR (lv_sub hl [1, 2, 0] rfl)
theorem t_X8_parties_L8 {p : Program} {l : Launch} {e : Env} {s : State} {m : MethodId} {args : Array Value} {below : List Frame} {meth : Method} {c : Code} {g : GT} {h0 : AH} {v0 : Option Nat} {v1 : Int32} {K : Unit → AH → Prop} {E : Nat → AH → Prop} (X : Cx g h0 p s m args meth c RX8 cX8_parties 5 none)  : ∀ (n : Nat) {v2 : Int32} {h : AH} {H : Heap} {locs : List Loc} {cells slots : Nat} {ls : Array Slot}, LpN1 (w_X8_parties_L8 g v0 v1 K E) n v2 h → HS g s h H locs → lv_has ls 5 [(0, va_rf v0), (1, .int v1), (2, .int v2)] → W p l e (RM 4 h0) s m args below meth c H locs cells slots (MQT below g (qV K) E args s h0) (F0 m 8 ls []) := by
  have hx := X.hx
  have hb := X.hb
  intro n
  induction n with
  | zero =>
    intro v2 h H locs cells slots ls hw
    exact hw.elim
  | succ n k8 =>
    intro v2 h H locs cells slots ls hw hR hl
    have hw : w_X8_parties_L8 g v0 v1 K E (LpN1 (w_X8_parties_L8 g v0 v1 K E) n) v2 h := hw
    unfold w_X8_parties_L8 at hw
    refine lv_iload_n hx hb dX8_parties_8 rfl (lv_at hl 2 rfl) ?_
    refine lv_bipush (v := 6) hx hb dX8_parties_9 (by decide) ?_
    refine lv_icmp_ge (tgt := 27) hx hb dX8_parties_11 (by decide) (fun c1 => ?_) (fun c1 => ?_)
    · have hw := hw.1 c1
      refine lv_iconst (v := 1) hx hb dX8_parties_27 (by decide) ?_
      refine lv_istore_n (i := 2) (lv' := [(2, .int 1), (0, va_rf v0), (1, .int v1)]) hx hb dX8_parties_28 rfl hl (by decide) rfl (fun ls hl => ?_)
      obtain ⟨n, hw⟩ := hw
      exact t_X8_parties_L29 X  n hw hR (lv_sub hl [1, 2, 0] rfl)
    · have hw := hw.2 c1
      refine r_aload_n X dX8_parties_14 rfl (lv_at hl 0 rfl) ?_
      refine r_gR X hR fk_X8_36 dX8_parties_15 hw (fun x15 hw => ?_)
      refine lv_iload_n hx hb dX8_parties_18 rfl (lv_at hl 2 rfl) ?_
      refine lv_iconst (v := 0) hx hb dX8_parties_19 (by decide) ?_
      refine r_iast X hR dX8_parties_20 hw (fun H locs h hR hw => ?_)
      refine r_iinc X (k := 2) (v := (v2 + 1)) (lv' := fun x16 => [(2, .int x16), (0, va_rf v0), (1, .int v1)]) dX8_parties_21 hl rfl rfl (by decide) hw (fun _ => rfl) (fun x16 hw ls hl => ?_)
      refine lv_goto (tgt := 8) hx hb dX8_parties_24 (by decide) ?_
      exact k8 hw hR (lv_sub hl [1, 2, 0] rfl)
theorem c_X8_parties (l : Launch) (g : GT) (v0 : Option Nat) (v1 : Int32) : CT qV l yX8_parties (ws_ yX8_parties cX8_parties 5 none) 4 g [va_rf v0, .int v1] (fun K E h => w_X8_parties g v0 v1 K E h) := by
  refine CT_of (lv := [(0, va_rf v0), (1, .int v1)]) (by decide +kernel) (by simp [lg_sl, cat_rf, cat_int, cat_long]) (by simp [lv_args, cat_rf, cat_int, cat_long]) (fun h0 K E p e s m args below meth c H locs cells slots ls X hxt hmn hw hR hl => ?_)
  have hx := X.hx
  have hb := X.hb
  unfold w_X8_parties at hw
  refine r_aload_n X dX8_parties_0 rfl (lv_at hl 0 rfl) ?_
  refine lv_bipush (v := (-2)) hx hb dX8_parties_1 (by decide) ?_
  refine r_put X hR fp_X8_421 (Or.inl fn_X8_421) (nf_int _) dX8_parties_3 hw (fun H locs h hR hw => ?_)
  refine lv_iconst (v := 0) hx hb dX8_parties_6 (by decide) ?_
  refine lv_istore_n (i := 2) (lv' := [(2, .int 0), (0, va_rf v0), (1, .int v1)]) hx hb dX8_parties_7 rfl hl (by decide) rfl (fun ls hl => ?_)
  obtain ⟨n, hw⟩ := hw
  exact t_X8_parties_L8 X  n hw hR (lv_sub hl [1, 2, 0] rfl)
theorem c_X8_party (l : Launch) (g : GT) (v0 : Option Nat) (v1 : Int32) : CT qI l yX8_party (ws_ yX8_party cX8_party 2 (Option.some Jvm.ClassFile.FieldType.int)) 5 g [va_rf v0, .int v1] (fun K E h => w_X8_party g v0 v1 K E h) := by
  refine CT_of (lv := [(0, va_rf v0), (1, .int v1)]) (by decide +kernel) (by simp [lg_sl, cat_rf, cat_int, cat_long]) (by simp [lv_args, cat_rf, cat_int, cat_long]) (fun h0 K E p e s m args below meth c H locs cells slots ls X hxt hmn hw hR hl => ?_)
  have hx := X.hx
  have hb := X.hb
  unfold w_X8_party at hw
  refine r_aload_n X dX8_party_0 rfl (lv_at hl 0 rfl) ?_
  refine lv_iconst (v := 0) hx hb dX8_party_1 (by decide) ?_
  refine r_put X hR fp_X8_45 (Or.inl fn_X8_45) (nf_int _) dX8_party_2 hw (fun H locs h hR hw => ?_)
  refine r_aload_n X dX8_party_5 rfl (lv_at hl 0 rfl) ?_
  refine lv_iload_n hx hb dX8_party_6 rfl (lv_at hl 1 rfl) ?_
  refine r_callI X hR (c_V (ci := 8) (q := (RX8, TX8, 32)) X hR hl.1 (c_X8_isParty l g v0 v1) (lw_V q2119 q2121 qs99 q125 q2122) rfl rfl mh_X8_isParty rfl (by decide) (by decide) rfl (cat4 (Nat.le_of_ble_eq_true rfl)) dX8_party_7 hw) (fun x1 h H locs cells slots hR hw => ?_)
  refine lv_if_ne (tgt := 19) hx hb dX8_party_10 (by decide) (fun c2 => ?_) (fun c2 => ?_)
  · have hw := hw.1 c2
    refine r_aload_n X dX8_party_19 rfl (lv_at hl 0 rfl) ?_
    refine lv_iload_n hx hb dX8_party_20 rfl (lv_at hl 1 rfl) ?_
    refine r_callV X hR (c_V (ci := 8) (q := (RX8, TX8, 32)) X hR hl.1 (c_X8_parties l g v0 v1) (lw_V q2123 q2125 qs100 q125 q2126) rfl rfl mh_X8_parties rfl (by decide) (by decide) rfl (cat4 (Nat.le_of_ble_eq_true rfl)) dX8_party_21 hw) (fun _ h H locs cells slots hR hw => ?_)
    refine r_aload_n X dX8_party_24 rfl (lv_at hl 0 rfl) ?_
    refine r_aload_n X dX8_party_25 rfl (lv_at hl 0 rfl) ?_
    refine r_gI X hR fk_X8_421 dX8_party_26 hw (fun x3 hw => ?_)
    refine r_callI X hR (c_V (ci := 8) (q := (RX8, TX8, 32)) X hR hl.1 (c_X8_good l g v0 x3) (lw_V q1929 q1931 qs78 q125 q1932) rfl rfl mh_X8_good rfl (by decide) (by decide) rfl (cat4 (Nat.le_of_ble_eq_true rfl)) dX8_party_29 hw) (fun x4 h H locs cells slots hR hw => ?_)
    exact r_iret X hR dX8_party_32 hw
  · have hw := hw.2 c2
    refine r_aload_n X dX8_party_13 rfl (lv_at hl 0 rfl) ?_
    refine lv_iconst (v := 1) hx hb dX8_party_14 (by decide) ?_
    refine r_callI X hR (c_V (ci := 8) (q := (RX8, TX8, 32)) X hR hl.1 (c_X8_refused l g v0 1) (lw_V q1657 q1659 qs50 q125 q1660) rfl rfl mh_X8_refused rfl (by decide) (by decide) rfl (cat4 (Nat.le_of_ble_eq_true rfl)) dX8_party_15 hw) (fun x5 h H locs cells slots hR hw => ?_)
    exact r_iret X hR dX8_party_18 hw
theorem t_X8_partyOf_J21 {p : Program} {l : Launch} {e : Env} {s : State} {m : MethodId} {args : Array Value} {below : List Frame} {meth : Method} {c : Code} {g : GT} {h0 : AH} {v0 : Option Nat} {K : Int32 → AH → Prop} {E : Nat → AH → Prop} {h : AH} {H : Heap} {locs : List Loc} {cells slots : Nat} {ls : Array Slot} (X : Cx g h0 p s m args meth c RX8 cX8_partyOf 3 (Option.some Jvm.ClassFile.FieldType.int))  (hw : w_X8_partyOf_J21 g v0 K E h) (hR : HS g s h H locs) (hl : lv_has ls 3 [(0, va_rf v0)]) : W p l e (RM 5 h0) s m args below meth c H locs cells slots (MQT below g (qI K) E args s h0) (F0 m 21 ls []) := by
  have hx := X.hx
  have hb := X.hb
  unfold w_X8_partyOf_J21 at hw
  refine r_aload_n X dX8_partyOf_21 rfl (lv_at hl 0 rfl) ?_
  refine lv_iconst (v := 1) hx hb dX8_partyOf_22 (by decide) ?_
  refine r_callI X hR (c_V (ci := 8) (q := (RX8, TX8, 32)) X hR hl.1 (c_X8_refused l g v0 1) (lw_V q1657 q1659 qs50 q125 q1660) rfl rfl mh_X8_refused rfl (by decide) (by decide) rfl (cat4 (Nat.le_of_ble_eq_true rfl)) dX8_partyOf_23 hw) (fun x3 h H locs cells slots hR hw => ?_)
  exact r_iret X hR dX8_partyOf_26 hw
theorem t_X8_partyOf_J68 {p : Program} {l : Launch} {e : Env} {s : State} {m : MethodId} {args : Array Value} {below : List Frame} {meth : Method} {c : Code} {g : GT} {h0 : AH} {s0 : Int32} {s1 : Option Nat} {K : Int32 → AH → Prop} {E : Nat → AH → Prop} {h : AH} {H : Heap} {locs : List Loc} {cells slots : Nat} {ls : Array Slot} (X : Cx g h0 p s m args meth c RX8 cX8_partyOf 3 (Option.some Jvm.ClassFile.FieldType.int))  (hw : w_X8_partyOf_J68 g  s0 s1 K E h) (hR : HS g s h H locs) (hl : lv_has ls 3 []) : W p l e (RM 5 h0) s m args below meth c H locs cells slots (MQT below g (qI K) E args s h0) (F0 m 68 ls [.int s0, va_rf s1]) := by
  have hx := X.hx
  have hb := X.hb
  unfold w_X8_partyOf_J68 at hw
  refine r_callI X hR (c_V (ci := 8) (q := (RX8, TX8, 32)) X hR hl.1 (c_X8_good l g s1 s0) (lw_V q1929 q1931 qs78 q125 q1932) rfl rfl mh_X8_good rfl (by decide) (by decide) rfl (cat4 (Nat.le_of_ble_eq_true rfl)) dX8_partyOf_68 hw) (fun x10 h H locs cells slots hR hw => ?_)
  exact r_iret X hR dX8_partyOf_71 hw
theorem c_X8_partyOf (l : Launch) (g : GT) (v0 : Option Nat) (v1 : Int32) (v2 : Int32) : CT qI l yX8_partyOf (ws_ yX8_partyOf cX8_partyOf 3 (Option.some Jvm.ClassFile.FieldType.int)) 5 g [va_rf v0, .int v1, .int v2] (fun K E h => w_X8_partyOf g v0 v1 v2 K E h) := by
  refine CT_of (lv := [(0, va_rf v0), (1, .int v1), (2, .int v2)]) (by decide +kernel) (by simp [lg_sl, cat_rf, cat_int, cat_long]) (by simp [lv_args, cat_rf, cat_int, cat_long]) (fun h0 K E p e s m args below meth c H locs cells slots ls X hxt hmn hw hR hl => ?_)
  have hx := X.hx
  have hb := X.hb
  unfold w_X8_partyOf at hw
  refine r_aload_n X dX8_partyOf_0 rfl (lv_at hl 0 rfl) ?_
  refine lv_iconst (v := 0) hx hb dX8_partyOf_1 (by decide) ?_
  refine r_put X hR fp_X8_45 (Or.inl fn_X8_45) (nf_int _) dX8_partyOf_2 hw (fun H locs h hR hw => ?_)
  refine r_aload_n X dX8_partyOf_5 rfl (lv_at hl 0 rfl) ?_
  refine lv_iload_n hx hb dX8_partyOf_6 rfl (lv_at hl 1 rfl) ?_
  refine r_callI X hR (c_V (ci := 8) (q := (RX8, TX8, 32)) X hR hl.1 (c_X8_isParty l g v0 v1) (lw_V q2119 q2121 qs99 q125 q2122) rfl rfl mh_X8_isParty rfl (by decide) (by decide) rfl (cat4 (Nat.le_of_ble_eq_true rfl)) dX8_partyOf_7 hw) (fun x1 h H locs cells slots hR hw => ?_)
  refine lv_if_eq (tgt := 21) hx hb dX8_partyOf_10 (by decide) (fun c2 => ?_) (fun c2 => ?_)
  · have hw := hw.1 c2
    exact t_X8_partyOf_J21 X  hw hR (lv_sub hl [0] rfl)
  · have hw := hw.2 c2
    refine r_aload_n X dX8_partyOf_13 rfl (lv_at hl 0 rfl) ?_
    refine lv_iload_n hx hb dX8_partyOf_14 rfl (lv_at hl 2 rfl) ?_
    refine r_callI X hR (c_V (ci := 8) (q := (RX8, TX8, 32)) X hR hl.1 (c_X8_isPerson l g v0 v2) (lw_V q1953 q1955 qs80 q125 q1956) rfl rfl mh_X8_isPerson rfl (by decide) (by decide) rfl (cat4 (Nat.le_of_ble_eq_true rfl)) dX8_partyOf_15 hw) (fun x4 h H locs cells slots hR hw => ?_)
    refine lv_if_ne (tgt := 27) hx hb dX8_partyOf_18 (by decide) (fun c5 => ?_) (fun c5 => ?_)
    · have hw := hw.1 c5
      refine r_aload_n X dX8_partyOf_27 rfl (lv_at hl 0 rfl) ?_
      refine lv_iload_n hx hb dX8_partyOf_28 rfl (lv_at hl 1 rfl) ?_
      refine r_callV X hR (c_V (ci := 8) (q := (RX8, TX8, 32)) X hR hl.1 (c_X8_parties l g v0 v1) (lw_V q2123 q2125 qs100 q125 q2126) rfl rfl mh_X8_parties rfl (by decide) (by decide) rfl (cat4 (Nat.le_of_ble_eq_true rfl)) dX8_partyOf_29 hw) (fun _ h H locs cells slots hR hw => ?_)
      refine r_aload_n X dX8_partyOf_32 rfl (lv_at hl 0 rfl) ?_
      refine r_gI X hR fk_X8_421 dX8_partyOf_33 hw (fun x6 hw => ?_)
      refine lv_bipush (v := (-2)) hx hb dX8_partyOf_36 (by decide) ?_
      refine lv_icmp_ne (tgt := 48) hx hb dX8_partyOf_38 (by decide) (fun c7 => ?_) (fun c7 => ?_)
      · have hw := hw.1 c7
        refine r_aload_n X dX8_partyOf_48 rfl (lv_at hl 0 rfl) ?_
        refine lv_iload_n hx hb dX8_partyOf_49 rfl (lv_at hl 1 rfl) ?_
        refine lv_iload_n hx hb dX8_partyOf_50 rfl (lv_at hl 2 rfl) ?_
        refine r_callI X hR (c_S X hR hl.1 (c_X8_bit l g v1 v2) (lw_S q2135 q2136 q125 q2137) mh_X8_bit rfl (by decide) (by decide) rfl (cat4 (Nat.le_of_ble_eq_true rfl)) dX8_partyOf_51 hw) (fun x8 h H locs cells slots hR hw => ?_)
        refine lv_if_eq (tgt := 66) hx hb dX8_partyOf_54 (by decide) (fun c9 => ?_) (fun c9 => ?_)
        · have hw := hw.1 c9
          refine lv_bipush (v := (-2)) hx hb dX8_partyOf_66 (by decide) ?_
          exact t_X8_partyOf_J68 X  hw hR (lv_sub hl [] rfl)
        · have hw := hw.2 c9
          refine r_aload_n X dX8_partyOf_57 rfl (lv_at hl 0 rfl) ?_
          refine r_gR X hR fk_X8_39 dX8_partyOf_58 hw (fun x11 hw => ?_)
          refine lv_iload_n hx hb dX8_partyOf_61 rfl (lv_at hl 2 rfl) ?_
          refine r_iald X hR dX8_partyOf_62 hw (fun x12 hw => ?_)
          refine lv_goto (tgt := 68) hx hb dX8_partyOf_63 (by decide) ?_
          exact t_X8_partyOf_J68 X  hw hR (lv_sub hl [] rfl)
      · have hw := hw.2 c7
        refine r_aload_n X dX8_partyOf_41 rfl (lv_at hl 0 rfl) ?_
        refine lv_bipush (v := 6) hx hb dX8_partyOf_42 (by decide) ?_
        refine r_callI X hR (c_V (ci := 8) (q := (RX8, TX8, 32)) X hR hl.1 (c_X8_refused l g v0 6) (lw_V q1657 q1659 qs50 q125 q1660) rfl rfl mh_X8_refused rfl (by decide) (by decide) rfl (cat4 (Nat.le_of_ble_eq_true rfl)) dX8_partyOf_44 hw) (fun x13 h H locs cells slots hR hw => ?_)
        exact r_iret X hR dX8_partyOf_47 hw
    · have hw := hw.2 c5
      exact t_X8_partyOf_J21 X  hw hR (lv_sub hl [0] rfl)
theorem t_X8_guest_J95 {p : Program} {l : Launch} {e : Env} {s : State} {m : MethodId} {args : Array Value} {below : List Frame} {meth : Method} {c : Code} {g : GT} {h0 : AH} {v0 : Option Nat} {v1 : Int32} {v2 : Int32} {v3 : Int32} {v4 : Int32} {K : Int32 → AH → Prop} {E : Nat → AH → Prop} {L27 : Int32 → Int32 → Int32 → AH → Prop} {h : AH} {H : Heap} {locs : List Loc} {cells slots : Nat} {ls : Array Slot} (X : Cx g h0 p s m args meth c RX8 cX8_guest 5 (Option.some Jvm.ClassFile.FieldType.int)) (k27 : ∀ {v2' : Int32} {v3' : Int32} {v4' : Int32} {h : AH} {H : Heap} {locs : List Loc} {cells slots : Nat} {ls : Array Slot}, L27 v2' v3' v4' h → HS g s h H locs → lv_has ls 5 [(0, va_rf v0), (1, .int v1), (2, .int (v2')), (3, .int (v3')), (4, .int (v4'))] → W p l e (RM 5 h0) s m args below meth c H locs cells slots (MQT below g (qI K) E args s h0) (F0 m 27 ls [])) (hw : w_X8_guest_J95 g v0 v1 v2 v3 v4 K E L27 h) (hR : HS g s h H locs) (hl : lv_has ls 5 [(0, va_rf v0), (1, .int v1), (2, .int v2), (3, .int v3), (4, .int v4)]) : W p l e (RM 5 h0) s m args below meth c H locs cells slots (MQT below g (qI K) E args s h0) (F0 m 95 ls []) := by
  have hx := X.hx
  have hb := X.hb
  unfold w_X8_guest_J95 at hw
  refine r_iinc X (k := 4) (v := (v4 + 1)) (lv' := fun x11 => [(4, .int x11), (0, va_rf v0), (1, .int v1), (2, .int v2), (3, .int v3)]) dX8_guest_95 hl rfl rfl (by decide) hw (fun _ => rfl) (fun x11 hw ls hl => ?_)
  refine lv_goto (tgt := 27) hx hb dX8_guest_98 (by decide) ?_
  exact k27 hw hR (lv_sub hl [1, 2, 3, 4, 0] rfl)
theorem t_X8_guest_J87 {p : Program} {l : Launch} {e : Env} {s : State} {m : MethodId} {args : Array Value} {below : List Frame} {meth : Method} {c : Code} {g : GT} {h0 : AH} {v0 : Option Nat} {v1 : Int32} {v4 : Int32} {K : Int32 → AH → Prop} {E : Nat → AH → Prop} {L27 : Int32 → Int32 → Int32 → AH → Prop} {h : AH} {H : Heap} {locs : List Loc} {cells slots : Nat} {ls : Array Slot} (X : Cx g h0 p s m args meth c RX8 cX8_guest 5 (Option.some Jvm.ClassFile.FieldType.int)) (k27 : ∀ {v2' : Int32} {v3' : Int32} {v4' : Int32} {h : AH} {H : Heap} {locs : List Loc} {cells slots : Nat} {ls : Array Slot}, L27 v2' v3' v4' h → HS g s h H locs → lv_has ls 5 [(0, va_rf v0), (1, .int v1), (2, .int (v2')), (3, .int (v3')), (4, .int (v4'))] → W p l e (RM 5 h0) s m args below meth c H locs cells slots (MQT below g (qI K) E args s h0) (F0 m 27 ls [])) (hw : w_X8_guest_J87 g v0 v1 v4 K E L27 h) (hR : HS g s h H locs) (hl : lv_has ls 5 [(0, va_rf v0), (1, .int v1), (4, .int v4)]) : W p l e (RM 5 h0) s m args below meth c H locs cells slots (MQT below g (qI K) E args s h0) (F0 m 87 ls []) := by
  have hx := X.hx
  have hb := X.hb
  unfold w_X8_guest_J87 at hw
  refine r_aload_n X dX8_guest_87 rfl (lv_at hl 0 rfl) ?_
  refine r_gI X hR fk_X8_421 dX8_guest_88 hw (fun x13 hw => ?_)
  refine lv_istore_n (i := 3) (lv' := [(3, .int x13), (0, va_rf v0), (1, .int v1), (4, .int v4)]) hx hb dX8_guest_91 rfl hl (by decide) rfl (fun ls hl => ?_)
  refine lv_iload hx hb dX8_guest_92 (lv_at hl 3 rfl) ?_
  refine lv_istore_n (i := 2) (lv' := [(2, .int v4), (3, .int x13), (0, va_rf v0), (1, .int v1), (4, .int v4)]) hx hb dX8_guest_94 rfl hl (by decide) rfl (fun ls hl => ?_)
  exact t_X8_guest_J95 X k27 hw hR (lv_sub hl [2, 3, 0, 1, 4] rfl)
theorem t_X8_guest_L27 {p : Program} {l : Launch} {e : Env} {s : State} {m : MethodId} {args : Array Value} {below : List Frame} {meth : Method} {c : Code} {g : GT} {h0 : AH} {v0 : Option Nat} {v1 : Int32} {K : Int32 → AH → Prop} {E : Nat → AH → Prop} (X : Cx g h0 p s m args meth c RX8 cX8_guest 5 (Option.some Jvm.ClassFile.FieldType.int))  : ∀ (n : Nat) {v2 : Int32} {v3 : Int32} {v4 : Int32} {h : AH} {H : Heap} {locs : List Loc} {cells slots : Nat} {ls : Array Slot}, LpN3 (w_X8_guest_L27 g v0 v1 K E) n v2 v3 v4 h → HS g s h H locs → lv_has ls 5 [(0, va_rf v0), (1, .int v1), (2, .int v2), (3, .int v3), (4, .int v4)] → W p l e (RM 5 h0) s m args below meth c H locs cells slots (MQT below g (qI K) E args s h0) (F0 m 27 ls []) := by
  have hx := X.hx
  have hb := X.hb
  intro n
  induction n with
  | zero =>
    intro v2 v3 v4 h H locs cells slots ls hw
    exact hw.elim
  | succ n k27 =>
    intro v2 v3 v4 h H locs cells slots ls hw hR hl
    have hw : w_X8_guest_L27 g v0 v1 K E (LpN3 (w_X8_guest_L27 g v0 v1 K E) n) v2 v3 v4 h := hw
    unfold w_X8_guest_L27 at hw
    refine lv_iload hx hb dX8_guest_27 (lv_at hl 4 rfl) ?_
    refine r_aload_n X dX8_guest_29 rfl (lv_at hl 0 rfl) ?_
    refine r_gR X hR fk_X8_316 dX8_guest_30 hw (fun x3 hw => ?_)
    refine r_gI X hR fk_X8_191 dX8_guest_33 hw (fun x4 hw => ?_)
    refine lv_icmp_ge (tgt := 101) hx hb dX8_guest_36 (by decide) (fun c5 => ?_) (fun c5 => ?_)
    · have hw := hw.1 c5
      refine r_aload_n X dX8_guest_101 rfl (lv_at hl 0 rfl) ?_
      refine lv_iload_n hx hb dX8_guest_102 rfl (lv_at hl 2 rfl) ?_
      refine r_callI X hR (c_V (ci := 8) (q := (RX8, TX8, 32)) X hR hl.1 (c_X8_good l g v0 v2) (lw_V q1929 q1931 qs78 q125 q1932) rfl rfl mh_X8_good rfl (by decide) (by decide) rfl (cat4 (Nat.le_of_ble_eq_true rfl)) dX8_guest_103 hw) (fun x6 h H locs cells slots hR hw => ?_)
      exact r_iret X hR dX8_guest_106 hw
    · have hw := hw.2 c5
      refine lv_iload_n hx hb dX8_guest_39 rfl (lv_at hl 1 rfl) ?_
      refine lv_iload hx hb dX8_guest_40 (lv_at hl 4 rfl) ?_
      refine r_callI X hR (c_S X hR hl.1 (c_X8_bit l g v1 v4) (lw_S q2135 q2136 q125 q2137) mh_X8_bit rfl (by decide) (by decide) rfl (cat4 (Nat.le_of_ble_eq_true rfl)) dX8_guest_42 hw) (fun x7 h H locs cells slots hR hw => ?_)
      refine lv_if_eq (tgt := 51) hx hb dX8_guest_45 (by decide) (fun c8 => ?_) (fun c8 => ?_)
      · have hw := hw.1 c8
        refine r_aload_n X dX8_guest_51 rfl (lv_at hl 0 rfl) ?_
        refine lv_iload_n hx hb dX8_guest_52 rfl (lv_at hl 1 rfl) ?_
        refine lv_iconst (v := 1) hx hb dX8_guest_53 (by decide) ?_
        refine lv_iload hx hb dX8_guest_54 (lv_at hl 4 rfl) ?_
        refine lv_ishl hx hb dX8_guest_56 ?_
        refine lv_ior hx hb dX8_guest_57 ?_
        refine r_callV X hR (c_V (ci := 8) (q := (RX8, TX8, 32)) X hR hl.1 (c_X8_parties l g v0 (v1 ||| (1 <<< (v4 &&& 31)))) (lw_V q2123 q2125 qs100 q125 q2126) rfl rfl mh_X8_parties rfl (by decide) (by decide) rfl (cat4 (Nat.le_of_ble_eq_true rfl)) dX8_guest_58 hw) (fun _ h H locs cells slots hR hw => ?_)
        refine r_aload_n X dX8_guest_61 rfl (lv_at hl 0 rfl) ?_
        refine r_gI X hR fk_X8_421 dX8_guest_62 hw (fun x9 hw => ?_)
        refine lv_bipush (v := (-2)) hx hb dX8_guest_65 (by decide) ?_
        refine lv_icmp_eq (tgt := 95) hx hb dX8_guest_67 (by decide) (fun c10 => ?_) (fun c10 => ?_)
        · have hw := hw.1 c10
          exact t_X8_guest_J95 X k27 hw hR (lv_sub hl [0, 1, 2, 3, 4] rfl)
        · have hw := hw.2 c10
          refine lv_iload_n hx hb dX8_guest_70 rfl (lv_at hl 2 rfl) ?_
          refine lv_bipush (v := (-2)) hx hb dX8_guest_71 (by decide) ?_
          refine lv_icmp_eq (tgt := 87) hx hb dX8_guest_73 (by decide) (fun c12 => ?_) (fun c12 => ?_)
          · have hw := hw.1 c12
            exact t_X8_guest_J87 X k27 hw hR (lv_sub hl [0, 1, 4] rfl)
          · have hw := hw.2 c12
            refine r_aload_n X dX8_guest_76 rfl (lv_at hl 0 rfl) ?_
            refine r_gI X hR fk_X8_421 dX8_guest_77 hw (fun x14 hw => ?_)
            refine lv_iload_n hx hb dX8_guest_80 rfl (lv_at hl 3 rfl) ?_
            refine lv_icmp_lt (tgt := 87) hx hb dX8_guest_81 (by decide) (fun c15 => ?_) (fun c15 => ?_)
            · have hw := hw.1 c15
              exact t_X8_guest_J87 X k27 hw hR (lv_sub hl [0, 1, 4] rfl)
            · have hw := hw.2 c15
              refine lv_goto (tgt := 95) hx hb dX8_guest_84 (by decide) ?_
              exact t_X8_guest_J95 X k27 hw hR (lv_sub hl [0, 1, 2, 3, 4] rfl)
      · have hw := hw.2 c8
        refine lv_goto (tgt := 95) hx hb dX8_guest_48 (by decide) ?_
        exact t_X8_guest_J95 X k27 hw hR (lv_sub hl [0, 1, 2, 3, 4] rfl)
theorem c_X8_guest (l : Launch) (g : GT) (v0 : Option Nat) (v1 : Int32) : CT qI l yX8_guest (ws_ yX8_guest cX8_guest 5 (Option.some Jvm.ClassFile.FieldType.int)) 5 g [va_rf v0, .int v1] (fun K E h => w_X8_guest g v0 v1 K E h) := by
  refine CT_of (lv := [(0, va_rf v0), (1, .int v1)]) (by decide +kernel) (by simp [lg_sl, cat_rf, cat_int, cat_long]) (by simp [lv_args, cat_rf, cat_int, cat_long]) (fun h0 K E p e s m args below meth c H locs cells slots ls X hxt hmn hw hR hl => ?_)
  have hx := X.hx
  have hb := X.hb
  unfold w_X8_guest at hw
  refine r_aload_n X dX8_guest_0 rfl (lv_at hl 0 rfl) ?_
  refine lv_iconst (v := 0) hx hb dX8_guest_1 (by decide) ?_
  refine r_put X hR fp_X8_45 (Or.inl fn_X8_45) (nf_int _) dX8_guest_2 hw (fun H locs h hR hw => ?_)
  refine r_aload_n X dX8_guest_5 rfl (lv_at hl 0 rfl) ?_
  refine lv_iload_n hx hb dX8_guest_6 rfl (lv_at hl 1 rfl) ?_
  refine r_callI X hR (c_V (ci := 8) (q := (RX8, TX8, 32)) X hR hl.1 (c_X8_isParty l g v0 v1) (lw_V q2119 q2121 qs99 q125 q2122) rfl rfl mh_X8_isParty rfl (by decide) (by decide) rfl (cat4 (Nat.le_of_ble_eq_true rfl)) dX8_guest_7 hw) (fun x1 h H locs cells slots hR hw => ?_)
  refine lv_if_ne (tgt := 19) hx hb dX8_guest_10 (by decide) (fun c2 => ?_) (fun c2 => ?_)
  · have hw := hw.1 c2
    refine lv_bipush (v := (-2)) hx hb dX8_guest_19 (by decide) ?_
    refine lv_istore_n (i := 2) (lv' := [(2, .int (-2)), (0, va_rf v0), (1, .int v1)]) hx hb dX8_guest_21 rfl hl (by decide) rfl (fun ls hl => ?_)
    refine lv_iconst (v := 0) hx hb dX8_guest_22 (by decide) ?_
    refine lv_istore_n (i := 3) (lv' := [(3, .int 0), (2, .int (-2)), (0, va_rf v0), (1, .int v1)]) hx hb dX8_guest_23 rfl hl (by decide) rfl (fun ls hl => ?_)
    refine lv_iconst (v := 0) hx hb dX8_guest_24 (by decide) ?_
    refine lv_istore (i := 4) (lv' := [(4, .int 0), (3, .int 0), (2, .int (-2)), (0, va_rf v0), (1, .int v1)]) hx hb dX8_guest_25 hl (by decide) rfl (fun ls hl => ?_)
    obtain ⟨n, hw⟩ := hw
    exact t_X8_guest_L27 X  n hw hR (lv_sub hl [3, 4, 2, 1, 0] rfl)
  · have hw := hw.2 c2
    refine r_aload_n X dX8_guest_13 rfl (lv_at hl 0 rfl) ?_
    refine lv_iconst (v := 1) hx hb dX8_guest_14 (by decide) ?_
    refine r_callI X hR (c_V (ci := 8) (q := (RX8, TX8, 32)) X hR hl.1 (c_X8_refused l g v0 1) (lw_V q1657 q1659 qs50 q125 q1660) rfl rfl mh_X8_refused rfl (by decide) (by decide) rfl (cat4 (Nat.le_of_ble_eq_true rfl)) dX8_guest_15 hw) (fun x16 h H locs cells slots hR hw => ?_)
    exact r_iret X hR dX8_guest_18 hw
theorem t_X8_room_L23 {p : Program} {l : Launch} {e : Env} {s : State} {m : MethodId} {args : Array Value} {below : List Frame} {meth : Method} {c : Code} {g : GT} {h0 : AH} {v0 : Option Nat} {v1 : Int32} {K : Int32 → AH → Prop} {E : Nat → AH → Prop} (X : Cx g h0 p s m args meth c RX8 cX8_room 4 (Option.some Jvm.ClassFile.FieldType.int))  : ∀ (n : Nat) {v2 : Int32} {v3 : Int32} {h : AH} {H : Heap} {locs : List Loc} {cells slots : Nat} {ls : Array Slot}, LpN2 (w_X8_room_L23 g v0 v1 K E) n v2 v3 h → HS g s h H locs → lv_has ls 4 [(0, va_rf v0), (1, .int v1), (2, .int v2), (3, .int v3)] → W p l e (RM 3 h0) s m args below meth c H locs cells slots (MQT below g (qI K) E args s h0) (F0 m 23 ls []) := by
  have hx := X.hx
  have hb := X.hb
  intro n
  induction n with
  | zero =>
    intro v2 v3 h H locs cells slots ls hw
    exact hw.elim
  | succ n k23 =>
    intro v2 v3 h H locs cells slots ls hw hR hl
    have hw : w_X8_room_L23 g v0 v1 K E (LpN2 (w_X8_room_L23 g v0 v1 K E) n) v2 v3 h := hw
    unfold w_X8_room_L23 at hw
    refine lv_iload_n hx hb dX8_room_23 rfl (lv_at hl 3 rfl) ?_
    refine r_aload_n X dX8_room_24 rfl (lv_at hl 0 rfl) ?_
    refine r_gR X hR fk_X8_316 dX8_room_25 hw (fun x3 hw => ?_)
    refine r_gI X hR fk_X8_194 dX8_room_28 hw (fun x4 hw => ?_)
    refine lv_icmp_ge (tgt := 49) hx hb dX8_room_31 (by decide) (fun c5 => ?_) (fun c5 => ?_)
    · have hw := hw.1 c5
      refine r_aload_n X dX8_room_49 rfl (lv_at hl 0 rfl) ?_
      refine lv_iload_n hx hb dX8_room_50 rfl (lv_at hl 2 rfl) ?_
      refine r_callI X hR (c_V (ci := 8) (q := (RX8, TX8, 32)) X hR hl.1 (c_X8_good l g v0 v2) (lw_V q1929 q1931 qs78 q125 q1932) rfl rfl mh_X8_good rfl (by decide) (by decide) rfl (cat4 (Nat.le_of_ble_eq_true rfl)) dX8_room_51 hw) (fun x6 h H locs cells slots hR hw => ?_)
      exact r_iret X hR dX8_room_54 hw
    · have hw := hw.2 c5
      refine lv_iload_n hx hb dX8_room_34 rfl (lv_at hl 2 rfl) ?_
      refine r_aload_n X dX8_room_35 rfl (lv_at hl 0 rfl) ?_
      refine lv_iload_n hx hb dX8_room_36 rfl (lv_at hl 3 rfl) ?_
      refine lv_iload_n hx hb dX8_room_37 rfl (lv_at hl 1 rfl) ?_
      refine r_callI X hR (c_V (ci := 8) (q := (RX8, TX8, 32)) X hR hl.1 (c_X8_roomOf l g v0 v3 v1) (lw_V q2131 q2133 qs102 q125 q2134) rfl rfl mh_X8_roomOf rfl (by decide) (by decide) rfl (cat4 (Nat.le_of_ble_eq_true rfl)) dX8_room_38 hw) (fun x7 h H locs cells slots hR hw => ?_)
      refine lv_iadd hx hb dX8_room_41 ?_
      refine r_nmI hw (fun x8 hw => ?_)
      refine lv_istore_n (i := 2) (lv' := [(2, .int x8), (0, va_rf v0), (1, .int v1), (3, .int v3)]) hx hb dX8_room_42 rfl hl (by decide) rfl (fun ls hl => ?_)
      refine r_iinc X (k := 3) (v := (v3 + 1)) (lv' := fun x9 => [(3, .int x9), (2, .int x8), (0, va_rf v0), (1, .int v1)]) dX8_room_43 hl rfl rfl (by decide) hw (fun _ => rfl) (fun x9 hw ls hl => ?_)
      refine lv_goto (tgt := 23) hx hb dX8_room_46 (by decide) ?_
      exact k23 hw hR (lv_sub hl [2, 3, 1, 0] rfl)
theorem c_X8_room (l : Launch) (g : GT) (v0 : Option Nat) (v1 : Int32) : CT qI l yX8_room (ws_ yX8_room cX8_room 4 (Option.some Jvm.ClassFile.FieldType.int)) 3 g [va_rf v0, .int v1] (fun K E h => w_X8_room g v0 v1 K E h) := by
  refine CT_of (lv := [(0, va_rf v0), (1, .int v1)]) (by decide +kernel) (by simp [lg_sl, cat_rf, cat_int, cat_long]) (by simp [lv_args, cat_rf, cat_int, cat_long]) (fun h0 K E p e s m args below meth c H locs cells slots ls X hxt hmn hw hR hl => ?_)
  have hx := X.hx
  have hb := X.hb
  unfold w_X8_room at hw
  refine r_aload_n X dX8_room_0 rfl (lv_at hl 0 rfl) ?_
  refine lv_iconst (v := 0) hx hb dX8_room_1 (by decide) ?_
  refine r_put X hR fp_X8_45 (Or.inl fn_X8_45) (nf_int _) dX8_room_2 hw (fun H locs h hR hw => ?_)
  refine r_aload_n X dX8_room_5 rfl (lv_at hl 0 rfl) ?_
  refine lv_iload_n hx hb dX8_room_6 rfl (lv_at hl 1 rfl) ?_
  refine r_callI X hR (c_V (ci := 8) (q := (RX8, TX8, 32)) X hR hl.1 (c_X8_isParty l g v0 v1) (lw_V q2119 q2121 qs99 q125 q2122) rfl rfl mh_X8_isParty rfl (by decide) (by decide) rfl (cat4 (Nat.le_of_ble_eq_true rfl)) dX8_room_7 hw) (fun x1 h H locs cells slots hR hw => ?_)
  refine lv_if_ne (tgt := 19) hx hb dX8_room_10 (by decide) (fun c2 => ?_) (fun c2 => ?_)
  · have hw := hw.1 c2
    refine lv_iconst (v := 0) hx hb dX8_room_19 (by decide) ?_
    refine lv_istore_n (i := 2) (lv' := [(2, .int 0), (0, va_rf v0), (1, .int v1)]) hx hb dX8_room_20 rfl hl (by decide) rfl (fun ls hl => ?_)
    refine lv_iconst (v := 0) hx hb dX8_room_21 (by decide) ?_
    refine lv_istore_n (i := 3) (lv' := [(3, .int 0), (2, .int 0), (0, va_rf v0), (1, .int v1)]) hx hb dX8_room_22 rfl hl (by decide) rfl (fun ls hl => ?_)
    obtain ⟨n, hw⟩ := hw
    exact t_X8_room_L23 X  n hw hR (lv_sub hl [2, 3, 1, 0] rfl)
  · have hw := hw.2 c2
    refine r_aload_n X dX8_room_13 rfl (lv_at hl 0 rfl) ?_
    refine lv_iconst (v := 1) hx hb dX8_room_14 (by decide) ?_
    refine r_callI X hR (c_V (ci := 8) (q := (RX8, TX8, 32)) X hR hl.1 (c_X8_refused l g v0 1) (lw_V q1657 q1659 qs50 q125 q1660) rfl rfl mh_X8_refused rfl (by decide) (by decide) rfl (cat4 (Nat.le_of_ble_eq_true rfl)) dX8_room_15 hw) (fun x10 h H locs cells slots hR hw => ?_)
    exact r_iret X hR dX8_room_18 hw
theorem t_X8_calm_J34 {p : Program} {l : Launch} {e : Env} {s : State} {m : MethodId} {args : Array Value} {below : List Frame} {meth : Method} {c : Code} {g : GT} {h0 : AH} {s0 : Int32} {s1 : Int64} {K : Int64 → AH → Prop} {E : Nat → AH → Prop} {h : AH} {H : Heap} {locs : List Loc} {cells slots : Nat} {ls : Array Slot} (X : Cx g h0 p s m args meth c RX8 cX8_calm 2 (Option.some Jvm.ClassFile.FieldType.long))  (hw : w_X8_calm_J34 g  s0 s1 K E h) (hR : HS g s h H locs) (hl : lv_has ls 2 []) : W p l e (RM 1 h0) s m args below meth c H locs cells slots (MQT below g (qJ K) E args s h0) (F0 m 34 ls [.int s0, .long s1]) := by
  have hx := X.hx
  have hb := X.hb
  unfold w_X8_calm_J34 at hw
  refine lv_i2l hx hb dX8_calm_34 rfl ?_
  refine lv_lsub hx hb dX8_calm_35 ?_
  exact r_lret X hR dX8_calm_36 hw
theorem c_X8_calm (l : Launch) (g : GT) (v0 : Option Nat) (v1 : Int32) : CT qJ l yX8_calm (ws_ yX8_calm cX8_calm 2 (Option.some Jvm.ClassFile.FieldType.long)) 1 g [va_rf v0, .int v1] (fun K E h => w_X8_calm g v0 v1 K E h) := by
  refine CT_of (lv := [(0, va_rf v0), (1, .int v1)]) (by decide +kernel) (by simp [lg_sl, cat_rf, cat_int, cat_long]) (by simp [lv_args, cat_rf, cat_int, cat_long]) (fun h0 K E p e s m args below meth c H locs cells slots ls X hxt hmn hw hR hl => ?_)
  have hx := X.hx
  have hb := X.hb
  unfold w_X8_calm at hw
  refine lv_ldc2 hx hb X.hown (X.hts _ q2162) dX8_calm_0 ?_
  refine r_aload_n X dX8_calm_3 rfl (lv_at hl 0 rfl) ?_
  refine r_gR X hR fk_X8_316 dX8_calm_4 hw (fun x1 hw => ?_)
  refine r_gR X hR fk_X8_270 dX8_calm_7 hw (fun x2 hw => ?_)
  refine lv_iload_n hx hb dX8_calm_10 rfl (lv_at hl 1 rfl) ?_
  refine r_iald X hR dX8_calm_11 hw (fun x3 hw => ?_)
  refine lv_if_ne (tgt := 27) hx hb dX8_calm_12 (by decide) (fun c4 => ?_) (fun c4 => ?_)
  · have hw := hw.1 c4
    refine r_aload_n X dX8_calm_27 rfl (lv_at hl 0 rfl) ?_
    refine r_gR X hR fk_X8_316 dX8_calm_28 hw (fun x5 hw => ?_)
    refine r_gI X hR fk_X8_230 dX8_calm_31 hw (fun x6 hw => ?_)
    exact t_X8_calm_J34 X  hw hR (lv_sub hl [] rfl)
  · have hw := hw.2 c4
    refine r_aload_n X dX8_calm_15 rfl (lv_at hl 0 rfl) ?_
    refine r_gR X hR fk_X8_316 dX8_calm_16 hw (fun x7 hw => ?_)
    refine r_gI X hR fk_X8_230 dX8_calm_19 hw (fun x8 hw => ?_)
    refine lv_iconst (v := 2) hx hb dX8_calm_22 (by decide) ?_
    refine lv_idiv hx hb dX8_calm_23 (by decide) ?_
    refine lv_goto (tgt := 34) hx hb dX8_calm_24 (by decide) ?_
    exact t_X8_calm_J34 X  hw hR (lv_sub hl [] rfl)
theorem t_X8_power_L5 {p : Program} {l : Launch} {e : Env} {s : State} {m : MethodId} {args : Array Value} {below : List Frame} {meth : Method} {c : Code} {g : GT} {h0 : AH} {v0 : Int64} {v2 : Int32} {K : Int64 → AH → Prop} {E : Nat → AH → Prop} (X : Cx g h0 p s m args meth c RX8 cX8_power 6 (Option.some Jvm.ClassFile.FieldType.long))  : ∀ (n : Nat) {v3 : Int64} {v5 : Int32} {h : AH} {H : Heap} {locs : List Loc} {cells slots : Nat} {ls : Array Slot}, LpN2 (w_X8_power_L5 g v0 v2 K E) n v3 v5 h → HS g s h H locs → lv_has ls 6 [(0, .long v0), (2, .int v2), (3, .long v3), (5, .int v5)] → W p l e (RM 1 h0) s m args below meth c H locs cells slots (MQT below g (qJ K) E args s h0) (F0 m 5 ls []) := by
  have hx := X.hx
  have hb := X.hb
  intro n
  induction n with
  | zero =>
    intro v3 v5 h H locs cells slots ls hw
    exact hw.elim
  | succ n k5 =>
    intro v3 v5 h H locs cells slots ls hw hR hl
    have hw : w_X8_power_L5 g v0 v2 K E (LpN2 (w_X8_power_L5 g v0 v2 K E) n) v3 v5 h := hw
    unfold w_X8_power_L5 at hw
    refine lv_iload hx hb dX8_power_5 (lv_at hl 3 rfl) ?_
    refine lv_iload_n hx hb dX8_power_7 rfl (lv_at hl 1 rfl) ?_
    refine lv_icmp_ge (tgt := 21) hx hb dX8_power_8 (by decide) (fun c1 => ?_) (fun c1 => ?_)
    · have hw := hw.1 c1
      refine lv_lload_n hx hb dX8_power_21 rfl (lv_at hl 2 rfl) ?_
      exact r_lret X hR dX8_power_22 hw
    · have hw := hw.2 c1
      refine lv_lload_n hx hb dX8_power_11 rfl (lv_at hl 2 rfl) ?_
      refine lv_lload_n hx hb dX8_power_12 rfl (lv_at hl 0 rfl) ?_
      refine lv_lmul hx hb dX8_power_13 ?_
      refine r_nmJ hw (fun x2 hw => ?_)
      refine lv_lstore_n (i := 3) (lv' := [(3, .long x2), (0, .long v0), (2, .int v2), (5, .int v5)]) hx hb dX8_power_14 rfl hl (by decide) rfl (fun ls hl => ?_)
      refine r_iinc X (k := 3) (v := (v5 + 1)) (lv' := fun x3 => [(5, .int x3), (3, .long x2), (0, .long v0), (2, .int v2)]) dX8_power_15 hl rfl rfl (by decide) hw (fun _ => rfl) (fun x3 hw ls hl => ?_)
      refine lv_goto (tgt := 5) hx hb dX8_power_18 (by decide) ?_
      exact k5 hw hR (lv_sub hl [2, 3, 1, 0] rfl)
theorem c_X8_power (l : Launch) (g : GT) (v0 : Int64) (v2 : Int32) : CT qJ l yX8_power (ws_ yX8_power cX8_power 6 (Option.some Jvm.ClassFile.FieldType.long)) 1 g [.long v0, .int v2] (fun K E h => w_X8_power g v0 v2 K E h) := by
  refine CT_of (lv := [(0, .long v0), (2, .int v2)]) (by decide +kernel) (by simp [lg_sl, cat_rf, cat_int, cat_long]) (by simp [lv_args, cat_rf, cat_int, cat_long]) (fun h0 K E p e s m args below meth c H locs cells slots ls X hxt hmn hw hR hl => ?_)
  have hx := X.hx
  have hb := X.hb
  unfold w_X8_power at hw
  refine lv_lconst (v := 1) hx hb dX8_power_0 (by decide) ?_
  refine lv_lstore_n (i := 3) (lv' := [(3, .long 1), (0, .long v0), (2, .int v2)]) hx hb dX8_power_1 rfl hl (by decide) rfl (fun ls hl => ?_)
  refine lv_iconst (v := 0) hx hb dX8_power_2 (by decide) ?_
  refine lv_istore (i := 5) (lv' := [(5, .int 0), (3, .long 1), (0, .long v0), (2, .int v2)]) hx hb dX8_power_3 hl (by decide) rfl (fun ls hl => ?_)
  obtain ⟨n, hw⟩ := hw
  exact t_X8_power_L5 X  n hw hR (lv_sub hl [2, 3, 1, 0] rfl)
theorem t_X8_common_L6 {p : Program} {l : Launch} {e : Env} {s : State} {m : MethodId} {args : Array Value} {below : List Frame} {meth : Method} {c : Code} {g : GT} {h0 : AH} {K : Int64 → AH → Prop} {E : Nat → AH → Prop} (X : Cx g h0 p s m args meth c RX8 cX8_common 10 (Option.some Jvm.ClassFile.FieldType.long))  : ∀ (n : Nat) {v4 : Int64} {v6 : Int64} {h : AH} {H : Heap} {locs : List Loc} {cells slots : Nat} {ls : Array Slot}, LpN2 (w_X8_common_L6 g  K E) n v4 v6 h → HS g s h H locs → lv_has ls 10 [(4, .long v4), (6, .long v6)] → W p l e (RM 1 h0) s m args below meth c H locs cells slots (MQT below g (qJ K) E args s h0) (F0 m 6 ls []) := by
  have hx := X.hx
  have hb := X.hb
  intro n
  induction n with
  | zero =>
    intro v4 v6 h H locs cells slots ls hw
    exact hw.elim
  | succ n k6 =>
    intro v4 v6 h H locs cells slots ls hw hR hl
    have hw : w_X8_common_L6 g  K E (LpN2 (w_X8_common_L6 g  K E) n) v4 v6 h := hw
    unfold w_X8_common_L6 at hw
    refine lv_lload hx hb dX8_common_6 (lv_at hl 1 rfl) ?_
    refine lv_lconst (v := 0) hx hb dX8_common_8 (by decide) ?_
    refine W.lcmp hx hb dX8_common_9 ?_
    refine lv_if_eq (tgt := 31) hx hb dX8_common_10 (by decide) (fun c1 => ?_) (fun c1 => ?_)
    · have hw := hw.1 c1
      refine lv_lload hx hb dX8_common_31 (lv_at hl 0 rfl) ?_
      exact r_lret X hR dX8_common_33 hw
    · have hw := hw.2 c1
      refine lv_lload hx hb dX8_common_13 (lv_at hl 0 rfl) ?_
      refine lv_lload hx hb dX8_common_15 (lv_at hl 1 rfl) ?_
      obtain ⟨z2, hw⟩ := hw
      refine lv_lrem hx hb dX8_common_17 z2 ?_
      refine r_nmJ hw (fun x3 hw => ?_)
      refine lv_lstore (i := 8) (lv' := [(8, .long x3), (4, .long v4), (6, .long v6)]) hx hb dX8_common_18 hl (by decide) rfl (fun ls hl => ?_)
      refine lv_lload hx hb dX8_common_20 (lv_at hl 2 rfl) ?_
      refine lv_lstore (i := 4) (lv' := [(4, .long v6), (8, .long x3), (6, .long v6)]) hx hb dX8_common_22 hl (by decide) rfl (fun ls hl => ?_)
      refine lv_lload hx hb dX8_common_24 (lv_at hl 1 rfl) ?_
      refine lv_lstore (i := 6) (lv' := [(6, .long x3), (4, .long v6), (8, .long x3)]) hx hb dX8_common_26 hl (by decide) rfl (fun ls hl => ?_)
      refine lv_goto (tgt := 6) hx hb dX8_common_28 (by decide) ?_
      exact k6 hw hR (lv_sub hl [1, 0] rfl)
theorem c_X8_common (l : Launch) (g : GT) (v0 : Int64) (v2 : Int64) : CT qJ l yX8_common (ws_ yX8_common cX8_common 10 (Option.some Jvm.ClassFile.FieldType.long)) 1 g [.long v0, .long v2] (fun K E h => w_X8_common g v0 v2 K E h) := by
  refine CT_of (lv := [(0, .long v0), (2, .long v2)]) (by decide +kernel) (by simp [lg_sl, cat_rf, cat_int, cat_long]) (by simp [lv_args, cat_rf, cat_int, cat_long]) (fun h0 K E p e s m args below meth c H locs cells slots ls X hxt hmn hw hR hl => ?_)
  have hx := X.hx
  have hb := X.hb
  unfold w_X8_common at hw
  refine lv_lload_n hx hb dX8_common_0 rfl (lv_at hl 0 rfl) ?_
  refine lv_lstore (i := 4) (lv' := [(4, .long v0), (0, .long v0), (2, .long v2)]) hx hb dX8_common_1 hl (by decide) rfl (fun ls hl => ?_)
  refine lv_lload_n hx hb dX8_common_3 rfl (lv_at hl 2 rfl) ?_
  refine lv_lstore (i := 6) (lv' := [(6, .long v2), (4, .long v0), (0, .long v0), (2, .long v2)]) hx hb dX8_common_4 hl (by decide) rfl (fun ls hl => ?_)
  obtain ⟨n, hw⟩ := hw
  exact t_X8_common_L6 X  n hw hR (lv_sub hl [1, 0] rfl)
theorem t_X8_fraction_J16 {p : Program} {l : Launch} {e : Env} {s : State} {m : MethodId} {args : Array Value} {below : List Frame} {meth : Method} {c : Code} {g : GT} {h0 : AH} {v1 : Int64} {v3 : Int64} {s0 : Int64} {K : Int64 → AH → Prop} {E : Nat → AH → Prop} {h : AH} {H : Heap} {locs : List Loc} {cells slots : Nat} {ls : Array Slot} (X : Cx g h0 p s m args meth c RX8 cX8_fraction 6 (Option.some Jvm.ClassFile.FieldType.long))  (hw : w_X8_fraction_J16 g v1 v3 s0 K E h) (hR : HS g s h H locs) (hl : lv_has ls 6 [(1, .long v1), (3, .long v3)]) : W p l e (RM 2 h0) s m args below meth c H locs cells slots (MQT below g (qJ K) E args s h0) (F0 m 16 ls [.long s0]) := by
  have hx := X.hx
  have hb := X.hb
  unfold w_X8_fraction_J16 at hw
  refine lv_lload_n hx hb dX8_fraction_16 rfl (lv_at hl 0 rfl) ?_
  refine lv_lload_n hx hb dX8_fraction_17 rfl (lv_at hl 1 rfl) ?_
  refine r_callJ X hR (c_S X hR hl.1 (c_X8_common l g v1 v3) (lw_S q2170 q2171 q125 q2172) mh_X8_common rfl (by decide) (by decide) rfl (cat4 (Nat.le_of_ble_eq_true rfl)) dX8_fraction_18 hw) (fun x3 h H locs cells slots hR hw => ?_)
  obtain ⟨z4, hw⟩ := hw
  refine lv_ldiv hx hb dX8_fraction_21 z4 ?_
  exact r_lret X hR dX8_fraction_22 hw
theorem c_X8_fraction (l : Launch) (g : GT) (v0 : Option Nat) (v1 : Int64) (v3 : Int64) (v5 : Int32) : CT qJ l yX8_fraction (ws_ yX8_fraction cX8_fraction 6 (Option.some Jvm.ClassFile.FieldType.long)) 2 g [va_rf v0, .long v1, .long v3, .int v5] (fun K E h => w_X8_fraction g v0 v1 v3 v5 K E h) := by
  refine CT_of (lv := [(0, va_rf v0), (1, .long v1), (3, .long v3), (5, .int v5)]) (by decide +kernel) (by simp [lg_sl, cat_rf, cat_int, cat_long]) (by simp [lv_args, cat_rf, cat_int, cat_long]) (fun h0 K E p e s m args below meth c H locs cells slots ls X hxt hmn hw hR hl => ?_)
  have hx := X.hx
  have hb := X.hb
  unfold w_X8_fraction at hw
  refine r_aload_n X dX8_fraction_0 rfl (lv_at hl 0 rfl) ?_
  refine lv_iconst (v := 0) hx hb dX8_fraction_1 (by decide) ?_
  refine r_callI X hR (c_V (ci := 8) (q := (RX8, TX8, 32)) X hR hl.1 (c_X8_good l g v0 0) (lw_V q1929 q1931 qs78 q125 q1932) rfl rfl mh_X8_good rfl (by decide) (by decide) rfl (cat4 (Nat.le_of_ble_eq_true rfl)) dX8_fraction_2 hw) (fun x1 h H locs cells slots hR hw => ?_)
  refine lv_pop hx hb dX8_fraction_5 rfl ?_
  refine lv_iload hx hb dX8_fraction_6 (lv_at hl 3 rfl) ?_
  refine lv_if_eq (tgt := 15) hx hb dX8_fraction_8 (by decide) (fun c2 => ?_) (fun c2 => ?_)
  · have hw := hw.1 c2
    refine lv_lload_n hx hb dX8_fraction_15 rfl (lv_at hl 1 rfl) ?_
    exact t_X8_fraction_J16 X  hw hR (lv_sub hl [1, 2] rfl)
  · have hw := hw.2 c2
    refine lv_lload_n hx hb dX8_fraction_11 rfl (lv_at hl 2 rfl) ?_
    refine lv_goto (tgt := 16) hx hb dX8_fraction_12 (by decide) ?_
    exact t_X8_fraction_J16 X  hw hR (lv_sub hl [1, 2] rfl)
theorem c_X8_whole (l : Launch) (g : GT) (v0 : Option Nat) (v1 : Int32) (v2 : Int32) (v3 : Int32) : CT qJ l yX8_whole (ws_ yX8_whole cX8_whole 4 (Option.some Jvm.ClassFile.FieldType.long)) 3 g [va_rf v0, .int v1, .int v2, .int v3] (fun K E h => w_X8_whole g v0 v1 v2 v3 K E h) := by
  refine CT_of (lv := [(0, va_rf v0), (1, .int v1), (2, .int v2), (3, .int v3)]) (by decide +kernel) (by simp [lg_sl, cat_rf, cat_int, cat_long]) (by simp [lv_args, cat_rf, cat_int, cat_long]) (fun h0 K E p e s m args below meth c H locs cells slots ls X hxt hmn hw hR hl => ?_)
  have hx := X.hx
  have hb := X.hb
  unfold w_X8_whole at hw
  refine r_aload_n X dX8_whole_0 rfl (lv_at hl 0 rfl) ?_
  refine lv_iconst (v := 0) hx hb dX8_whole_1 (by decide) ?_
  refine r_put X hR fp_X8_45 (Or.inl fn_X8_45) (nf_int _) dX8_whole_2 hw (fun H locs h hR hw => ?_)
  refine r_aload_n X dX8_whole_5 rfl (lv_at hl 0 rfl) ?_
  refine lv_iload_n hx hb dX8_whole_6 rfl (lv_at hl 1 rfl) ?_
  refine r_callI X hR (c_V (ci := 8) (q := (RX8, TX8, 32)) X hR hl.1 (c_X8_isUmbrella l g v0 v1) (lw_V q1945 q1947 qs79 q125 q1948) rfl rfl mh_X8_isUmbrella rfl (by decide) (by decide) rfl (cat4 (Nat.le_of_ble_eq_true rfl)) dX8_whole_7 hw) (fun x1 h H locs cells slots hR hw => ?_)
  refine lv_if_ne (tgt := 20) hx hb dX8_whole_10 (by decide) (fun c2 => ?_) (fun c2 => ?_)
  · have hw := hw.1 c2
    refine lv_iload_n hx hb dX8_whole_20 rfl (lv_at hl 2 rfl) ?_
    refine lv_iconst (v := 0) hx hb dX8_whole_21 (by decide) ?_
    refine lv_bipush (v := 6) hx hb dX8_whole_22 (by decide) ?_
    refine r_callI X hR (c_S X hR hl.1 (c_X8_in l g v2 0 6) (lw_S q1834 q1835 q125 q1836) mh_X8_in rfl (by decide) (by decide) rfl (cat4 (Nat.le_of_ble_eq_true rfl)) dX8_whole_24 hw) (fun x3 h H locs cells slots hR hw => ?_)
    refine lv_if_eq (tgt := 54) hx hb dX8_whole_27 (by decide) (fun c4 => ?_) (fun c4 => ?_)
    · have hw := hw.1 c4
      refine r_aload_n X dX8_whole_54 rfl (lv_at hl 0 rfl) ?_
      refine lv_iconst (v := 2) hx hb dX8_whole_55 (by decide) ?_
      refine r_callI X hR (c_V (ci := 8) (q := (RX8, TX8, 32)) X hR hl.1 (c_X8_refused l g v0 2) (lw_V q1657 q1659 qs50 q125 q1660) rfl rfl mh_X8_refused rfl (by decide) (by decide) rfl (cat4 (Nat.le_of_ble_eq_true rfl)) dX8_whole_56 hw) (fun x5 h H locs cells slots hR hw => ?_)
      refine lv_i2l hx hb dX8_whole_59 rfl ?_
      exact r_lret X hR dX8_whole_60 hw
    · have hw := hw.2 c4
      refine r_aload_n X dX8_whole_30 rfl (lv_at hl 0 rfl) ?_
      refine r_aload_n X dX8_whole_31 rfl (lv_at hl 0 rfl) ?_
      refine lv_iload_n hx hb dX8_whole_32 rfl (lv_at hl 1 rfl) ?_
      refine r_callJ X hR (c_V (ci := 8) (q := (RX8, TX8, 32)) X hR hl.1 (c_X8_calm l g v0 v1) (lw_V q2158 q2160 qs104 q125 q2161) rfl rfl mh_X8_calm rfl (by decide) (by decide) rfl (cat4 (Nat.le_of_ble_eq_true rfl)) dX8_whole_33 hw) (fun x6 h H locs cells slots hR hw => ?_)
      refine lv_iload_n hx hb dX8_whole_36 rfl (lv_at hl 2 rfl) ?_
      refine r_callJ X hR (c_S X hR hl.1 (c_X8_power l g x6 v2) (lw_S q2163 q2164 q125 q2165) mh_X8_power rfl (by decide) (by decide) rfl (cat4 (Nat.le_of_ble_eq_true rfl)) dX8_whole_37 hw) (fun x7 h H locs cells slots hR hw => ?_)
      refine lv_ldc2 hx hb X.hown (X.hts _ q2162) dX8_whole_40 ?_
      refine lv_iload_n hx hb dX8_whole_43 rfl (lv_at hl 2 rfl) ?_
      refine r_callJ X hR (c_S X hR hl.1 (c_X8_power l g 100 v2) (lw_S q2163 q2164 q125 q2165) mh_X8_power rfl (by decide) (by decide) rfl (cat4 (Nat.le_of_ble_eq_true rfl)) dX8_whole_44 hw) (fun x8 h H locs cells slots hR hw => ?_)
      refine lv_iload_n hx hb dX8_whole_47 rfl (lv_at hl 3 rfl) ?_
      refine r_callJ X hR (c_V (ci := 8) (q := (RX8, TX8, 32)) X hR hl.1 (c_X8_fraction l g v0 x7 x8 v3) (lw_V q2166 q2168 qs105 q125 q2169) rfl rfl mh_X8_fraction rfl (by decide) (by decide) rfl (cat4 (Nat.le_of_ble_eq_true rfl)) dX8_whole_48 hw) (fun x9 h H locs cells slots hR hw => ?_)
      refine lv_goto (tgt := 60) hx hb dX8_whole_51 (by decide) ?_
      exact r_lret X hR dX8_whole_60 hw
  · have hw := hw.2 c2
    refine r_aload_n X dX8_whole_13 rfl (lv_at hl 0 rfl) ?_
    refine lv_iconst (v := 1) hx hb dX8_whole_14 (by decide) ?_
    refine r_callI X hR (c_V (ci := 8) (q := (RX8, TX8, 32)) X hR hl.1 (c_X8_refused l g v0 1) (lw_V q1657 q1659 qs50 q125 q1660) rfl rfl mh_X8_refused rfl (by decide) (by decide) rfl (cat4 (Nat.le_of_ble_eq_true rfl)) dX8_whole_15 hw) (fun x10 h H locs cells slots hR hw => ?_)
    refine lv_i2l hx hb dX8_whole_18 rfl ?_
    exact r_lret X hR dX8_whole_19 hw
theorem t_X8_allWhole_J100 {p : Program} {l : Launch} {e : Env} {s : State} {m : MethodId} {args : Array Value} {below : List Frame} {meth : Method} {c : Code} {g : GT} {h0 : AH} {v0 : Option Nat} {v1 : Int32} {v2 : Int32} {v3 : Int32} {v4 : Int64} {v6 : Int64} {v8 : Int32} {K : Int64 → AH → Prop} {E : Nat → AH → Prop} {L45 : Int64 → Int64 → Int32 → AH → Prop} {h : AH} {H : Heap} {locs : List Loc} {cells slots : Nat} {ls : Array Slot} (X : Cx g h0 p s m args meth c RX8 cX8_allWhole 9 (Option.some Jvm.ClassFile.FieldType.long)) (k45 : ∀ {v4' : Int64} {v6' : Int64} {v8' : Int32} {h : AH} {H : Heap} {locs : List Loc} {cells slots : Nat} {ls : Array Slot}, L45 v4' v6' v8' h → HS g s h H locs → lv_has ls 9 [(0, va_rf v0), (1, .int v1), (2, .int v2), (3, .int v3), (4, .long (v4')), (6, .long (v6')), (8, .int (v8'))] → W p l e (RM 3 h0) s m args below meth c H locs cells slots (MQT below g (qJ K) E args s h0) (F0 m 45 ls [])) (hw : w_X8_allWhole_J100 g v0 v1 v2 v3 v4 v6 v8 K E L45 h) (hR : HS g s h H locs) (hl : lv_has ls 9 [(0, va_rf v0), (1, .int v1), (2, .int v2), (3, .int v3), (4, .long v4), (6, .long v6), (8, .int v8)]) : W p l e (RM 3 h0) s m args below meth c H locs cells slots (MQT below g (qJ K) E args s h0) (F0 m 100 ls []) := by
  have hx := X.hx
  have hb := X.hb
  unfold w_X8_allWhole_J100 at hw
  refine r_iinc X (k := 6) (v := (v8 + 1)) (lv' := fun x17 => [(8, .int x17), (0, va_rf v0), (1, .int v1), (2, .int v2), (3, .int v3), (4, .long v4), (6, .long v6)]) dX8_allWhole_100 hl rfl rfl (by decide) hw (fun _ => rfl) (fun x17 hw ls hl => ?_)
  refine lv_goto (tgt := 45) hx hb dX8_allWhole_103 (by decide) ?_
  exact k45 hw hR (lv_sub hl [1, 2, 3, 4, 5, 6, 0] rfl)
theorem t_X8_allWhole_L45 {p : Program} {l : Launch} {e : Env} {s : State} {m : MethodId} {args : Array Value} {below : List Frame} {meth : Method} {c : Code} {g : GT} {h0 : AH} {v0 : Option Nat} {v1 : Int32} {v2 : Int32} {v3 : Int32} {K : Int64 → AH → Prop} {E : Nat → AH → Prop} (X : Cx g h0 p s m args meth c RX8 cX8_allWhole 9 (Option.some Jvm.ClassFile.FieldType.long))  : ∀ (n : Nat) {v4 : Int64} {v6 : Int64} {v8 : Int32} {h : AH} {H : Heap} {locs : List Loc} {cells slots : Nat} {ls : Array Slot}, LpN3 (w_X8_allWhole_L45 g v0 v1 v2 v3 K E) n v4 v6 v8 h → HS g s h H locs → lv_has ls 9 [(0, va_rf v0), (1, .int v1), (2, .int v2), (3, .int v3), (4, .long v4), (6, .long v6), (8, .int v8)] → W p l e (RM 3 h0) s m args below meth c H locs cells slots (MQT below g (qJ K) E args s h0) (F0 m 45 ls []) := by
  have hx := X.hx
  have hb := X.hb
  intro n
  induction n with
  | zero =>
    intro v4 v6 v8 h H locs cells slots ls hw
    exact hw.elim
  | succ n k45 =>
    intro v4 v6 v8 h H locs cells slots ls hw hR hl
    have hw : w_X8_allWhole_L45 g v0 v1 v2 v3 K E (LpN3 (w_X8_allWhole_L45 g v0 v1 v2 v3 K E) n) v4 v6 v8 h := hw
    unfold w_X8_allWhole_L45 at hw
    refine lv_iload hx hb dX8_allWhole_45 (lv_at hl 6 rfl) ?_
    refine r_aload_n X dX8_allWhole_47 rfl (lv_at hl 0 rfl) ?_
    refine r_gR X hR fk_X8_316 dX8_allWhole_48 hw (fun x5 hw => ?_)
    refine r_gI X hR fk_X8_194 dX8_allWhole_51 hw (fun x6 hw => ?_)
    refine lv_icmp_ge (tgt := 106) hx hb dX8_allWhole_54 (by decide) (fun c7 => ?_) (fun c7 => ?_)
    · have hw := hw.1 c7
      refine r_aload_n X dX8_allWhole_106 rfl (lv_at hl 0 rfl) ?_
      refine lv_lload hx hb dX8_allWhole_107 (lv_at hl 4 rfl) ?_
      refine lv_lload hx hb dX8_allWhole_109 (lv_at hl 5 rfl) ?_
      refine lv_iload_n hx hb dX8_allWhole_111 rfl (lv_at hl 3 rfl) ?_
      refine r_callJ X hR (c_V (ci := 8) (q := (RX8, TX8, 32)) X hR hl.1 (c_X8_fraction l g v0 v4 v6 v3) (lw_V q2166 q2168 qs105 q125 q2169) rfl rfl mh_X8_fraction rfl (by decide) (by decide) rfl (cat4 (Nat.le_of_ble_eq_true rfl)) dX8_allWhole_112 hw) (fun x8 h H locs cells slots hR hw => ?_)
      exact r_lret X hR dX8_allWhole_115 hw
    · have hw := hw.2 c7
      refine r_aload_n X dX8_allWhole_57 rfl (lv_at hl 0 rfl) ?_
      refine r_gR X hR fk_X8_17 dX8_allWhole_58 hw (fun x9 hw => ?_)
      refine lv_iconst (v := 0) hx hb dX8_allWhole_61 (by decide) ?_
      refine lv_iload hx hb dX8_allWhole_62 (lv_at hl 6 rfl) ?_
      refine lv_iadd hx hb dX8_allWhole_64 ?_
      refine r_iald X hR dX8_allWhole_65 hw (fun x10 hw => ?_)
      refine lv_iload_n hx hb dX8_allWhole_66 rfl (lv_at hl 1 rfl) ?_
      refine lv_icmp_eq (tgt := 73) hx hb dX8_allWhole_67 (by decide) (fun c11 => ?_) (fun c11 => ?_)
      · have hw := hw.1 c11
        refine lv_lload hx hb dX8_allWhole_73 (lv_at hl 4 rfl) ?_
        refine r_aload_n X dX8_allWhole_75 rfl (lv_at hl 0 rfl) ?_
        refine lv_iload hx hb dX8_allWhole_76 (lv_at hl 6 rfl) ?_
        refine r_callJ X hR (c_V (ci := 8) (q := (RX8, TX8, 32)) X hR hl.1 (c_X8_calm l g v0 v8) (lw_V q2158 q2160 qs104 q125 q2161) rfl rfl mh_X8_calm rfl (by decide) (by decide) rfl (cat4 (Nat.le_of_ble_eq_true rfl)) dX8_allWhole_78 hw) (fun x12 h H locs cells slots hR hw => ?_)
        refine lv_iload_n hx hb dX8_allWhole_81 rfl (lv_at hl 2 rfl) ?_
        refine r_callJ X hR (c_S X hR hl.1 (c_X8_power l g x12 v2) (lw_S q2163 q2164 q125 q2165) mh_X8_power rfl (by decide) (by decide) rfl (cat4 (Nat.le_of_ble_eq_true rfl)) dX8_allWhole_82 hw) (fun x13 h H locs cells slots hR hw => ?_)
        refine lv_lmul hx hb dX8_allWhole_85 ?_
        refine r_nmJ hw (fun x14 hw => ?_)
        refine lv_lstore (i := 4) (lv' := [(4, .long x14), (0, va_rf v0), (1, .int v1), (2, .int v2), (3, .int v3), (6, .long v6), (8, .int v8)]) hx hb dX8_allWhole_86 hl (by decide) rfl (fun ls hl => ?_)
        refine lv_lload hx hb dX8_allWhole_88 (lv_at hl 5 rfl) ?_
        refine lv_ldc2 hx hb X.hown (X.hts _ q2162) dX8_allWhole_90 ?_
        refine lv_iload_n hx hb dX8_allWhole_93 rfl (lv_at hl 3 rfl) ?_
        refine r_callJ X hR (c_S X hR hl.1 (c_X8_power l g 100 v2) (lw_S q2163 q2164 q125 q2165) mh_X8_power rfl (by decide) (by decide) rfl (cat4 (Nat.le_of_ble_eq_true rfl)) dX8_allWhole_94 hw) (fun x15 h H locs cells slots hR hw => ?_)
        refine lv_lmul hx hb dX8_allWhole_97 ?_
        refine r_nmJ hw (fun x16 hw => ?_)
        refine lv_lstore (i := 6) (lv' := [(6, .long x16), (4, .long x14), (0, va_rf v0), (1, .int v1), (2, .int v2), (3, .int v3), (8, .int v8)]) hx hb dX8_allWhole_98 hl (by decide) rfl (fun ls hl => ?_)
        exact t_X8_allWhole_J100 X k45 hw hR (lv_sub hl [2, 3, 4, 5, 1, 0, 6] rfl)
      · have hw := hw.2 c11
        refine lv_goto (tgt := 100) hx hb dX8_allWhole_70 (by decide) ?_
        exact t_X8_allWhole_J100 X k45 hw hR (lv_sub hl [0, 1, 2, 3, 4, 5, 6] rfl)
theorem c_X8_allWhole (l : Launch) (g : GT) (v0 : Option Nat) (v1 : Int32) (v2 : Int32) (v3 : Int32) : CT qJ l yX8_allWhole (ws_ yX8_allWhole cX8_allWhole 9 (Option.some Jvm.ClassFile.FieldType.long)) 3 g [va_rf v0, .int v1, .int v2, .int v3] (fun K E h => w_X8_allWhole g v0 v1 v2 v3 K E h) := by
  refine CT_of (lv := [(0, va_rf v0), (1, .int v1), (2, .int v2), (3, .int v3)]) (by decide +kernel) (by simp [lg_sl, cat_rf, cat_int, cat_long]) (by simp [lv_args, cat_rf, cat_int, cat_long]) (fun h0 K E p e s m args below meth c H locs cells slots ls X hxt hmn hw hR hl => ?_)
  have hx := X.hx
  have hb := X.hb
  unfold w_X8_allWhole at hw
  refine r_aload_n X dX8_allWhole_0 rfl (lv_at hl 0 rfl) ?_
  refine lv_iconst (v := 0) hx hb dX8_allWhole_1 (by decide) ?_
  refine r_put X hR fp_X8_45 (Or.inl fn_X8_45) (nf_int _) dX8_allWhole_2 hw (fun H locs h hR hw => ?_)
  refine r_aload_n X dX8_allWhole_5 rfl (lv_at hl 0 rfl) ?_
  refine lv_iload_n hx hb dX8_allWhole_6 rfl (lv_at hl 1 rfl) ?_
  refine r_callI X hR (c_V (ci := 8) (q := (RX8, TX8, 32)) X hR hl.1 (c_X8_isPerson l g v0 v1) (lw_V q1953 q1955 qs80 q125 q1956) rfl rfl mh_X8_isPerson rfl (by decide) (by decide) rfl (cat4 (Nat.le_of_ble_eq_true rfl)) dX8_allWhole_7 hw) (fun x1 h H locs cells slots hR hw => ?_)
  refine lv_if_ne (tgt := 20) hx hb dX8_allWhole_10 (by decide) (fun c2 => ?_) (fun c2 => ?_)
  · have hw := hw.1 c2
    refine lv_iload_n hx hb dX8_allWhole_20 rfl (lv_at hl 2 rfl) ?_
    refine lv_iconst (v := 0) hx hb dX8_allWhole_21 (by decide) ?_
    refine lv_iconst (v := 1) hx hb dX8_allWhole_22 (by decide) ?_
    refine r_callI X hR (c_S X hR hl.1 (c_X8_in l g v2 0 1) (lw_S q1834 q1835 q125 q1836) mh_X8_in rfl (by decide) (by decide) rfl (cat4 (Nat.le_of_ble_eq_true rfl)) dX8_allWhole_23 hw) (fun x3 h H locs cells slots hR hw => ?_)
    refine lv_if_ne (tgt := 36) hx hb dX8_allWhole_26 (by decide) (fun c4 => ?_) (fun c4 => ?_)
    · have hw := hw.1 c4
      refine lv_lconst (v := 1) hx hb dX8_allWhole_36 (by decide) ?_
      refine lv_lstore (i := 4) (lv' := [(4, .long 1), (0, va_rf v0), (1, .int v1), (2, .int v2), (3, .int v3)]) hx hb dX8_allWhole_37 hl (by decide) rfl (fun ls hl => ?_)
      refine lv_lconst (v := 1) hx hb dX8_allWhole_39 (by decide) ?_
      refine lv_lstore (i := 6) (lv' := [(6, .long 1), (4, .long 1), (0, va_rf v0), (1, .int v1), (2, .int v2), (3, .int v3)]) hx hb dX8_allWhole_40 hl (by decide) rfl (fun ls hl => ?_)
      refine lv_iconst (v := 0) hx hb dX8_allWhole_42 (by decide) ?_
      refine lv_istore (i := 8) (lv' := [(8, .int 0), (6, .long 1), (4, .long 1), (0, va_rf v0), (1, .int v1), (2, .int v2), (3, .int v3)]) hx hb dX8_allWhole_43 hl (by decide) rfl (fun ls hl => ?_)
      obtain ⟨n, hw⟩ := hw
      exact t_X8_allWhole_L45 X  n hw hR (lv_sub hl [3, 4, 5, 6, 2, 1, 0] rfl)
    · have hw := hw.2 c4
      refine r_aload_n X dX8_allWhole_29 rfl (lv_at hl 0 rfl) ?_
      refine lv_iconst (v := 2) hx hb dX8_allWhole_30 (by decide) ?_
      refine r_callI X hR (c_V (ci := 8) (q := (RX8, TX8, 32)) X hR hl.1 (c_X8_refused l g v0 2) (lw_V q1657 q1659 qs50 q125 q1660) rfl rfl mh_X8_refused rfl (by decide) (by decide) rfl (cat4 (Nat.le_of_ble_eq_true rfl)) dX8_allWhole_31 hw) (fun x18 h H locs cells slots hR hw => ?_)
      refine lv_i2l hx hb dX8_allWhole_34 rfl ?_
      exact r_lret X hR dX8_allWhole_35 hw
  · have hw := hw.2 c2
    refine r_aload_n X dX8_allWhole_13 rfl (lv_at hl 0 rfl) ?_
    refine lv_iconst (v := 1) hx hb dX8_allWhole_14 (by decide) ?_
    refine r_callI X hR (c_V (ci := 8) (q := (RX8, TX8, 32)) X hR hl.1 (c_X8_refused l g v0 1) (lw_V q1657 q1659 qs50 q125 q1660) rfl rfl mh_X8_refused rfl (by decide) (by decide) rfl (cat4 (Nat.le_of_ble_eq_true rfl)) dX8_allWhole_15 hw) (fun x19 h H locs cells slots hR hw => ?_)
    refine lv_i2l hx hb dX8_allWhole_18 rfl ?_
    exact r_lret X hR dX8_allWhole_19 hw
theorem t_X8_divided_J84 {p : Program} {l : Launch} {e : Env} {s : State} {m : MethodId} {args : Array Value} {below : List Frame} {meth : Method} {c : Code} {g : GT} {h0 : AH} {s0 : Int32} {s1 : Int32} {s2 : Option Nat} {K : Int32 → AH → Prop} {E : Nat → AH → Prop} {h : AH} {H : Heap} {locs : List Loc} {cells slots : Nat} {ls : Array Slot} (X : Cx g h0 p s m args meth c RX8 cX8_divided 4 (Option.some Jvm.ClassFile.FieldType.int))  (hw : w_X8_divided_J84 g  s0 s1 s2 K E h) (hR : HS g s h H locs) (hl : lv_has ls 4 []) : W p l e (RM 2 h0) s m args below meth c H locs cells slots (MQT below g (qI K) E args s h0) (F0 m 84 ls [.int s0, .int s1, va_rf s2]) := by
  have hx := X.hx
  have hb := X.hb
  unfold w_X8_divided_J84 at hw
  refine lv_iadd hx hb dX8_divided_84 ?_
  refine r_callI X hR (c_V (ci := 8) (q := (RX8, TX8, 32)) X hR hl.1 (c_X8_good l g s2 (s1 + s0)) (lw_V q1929 q1931 qs78 q125 q1932) rfl rfl mh_X8_good rfl (by decide) (by decide) rfl (cat4 (Nat.le_of_ble_eq_true rfl)) dX8_divided_85 hw) (fun x16 h H locs cells slots hR hw => ?_)
  exact r_iret X hR dX8_divided_88 hw
theorem c_X8_divided (l : Launch) (g : GT) (v0 : Option Nat) (v1 : Int32) (v2 : Int32) (v3 : Int32) : CT qI l yX8_divided (ws_ yX8_divided cX8_divided 4 (Option.some Jvm.ClassFile.FieldType.int)) 2 g [va_rf v0, .int v1, .int v2, .int v3] (fun K E h => w_X8_divided g v0 v1 v2 v3 K E h) := by
  refine CT_of (lv := [(0, va_rf v0), (1, .int v1), (2, .int v2), (3, .int v3)]) (by decide +kernel) (by simp [lg_sl, cat_rf, cat_int, cat_long]) (by simp [lv_args, cat_rf, cat_int, cat_long]) (fun h0 K E p e s m args below meth c H locs cells slots ls X hxt hmn hw hR hl => ?_)
  have hx := X.hx
  have hb := X.hb
  unfold w_X8_divided at hw
  refine r_aload_n X dX8_divided_0 rfl (lv_at hl 0 rfl) ?_
  refine lv_iconst (v := 0) hx hb dX8_divided_1 (by decide) ?_
  refine r_put X hR fp_X8_45 (Or.inl fn_X8_45) (nf_int _) dX8_divided_2 hw (fun H locs h hR hw => ?_)
  refine r_aload_n X dX8_divided_5 rfl (lv_at hl 0 rfl) ?_
  refine lv_iload_n hx hb dX8_divided_6 rfl (lv_at hl 1 rfl) ?_
  refine r_callI X hR (c_V (ci := 8) (q := (RX8, TX8, 32)) X hR hl.1 (c_X8_isUmbrella l g v0 v1) (lw_V q1945 q1947 qs79 q125 q1948) rfl rfl mh_X8_isUmbrella rfl (by decide) (by decide) rfl (cat4 (Nat.le_of_ble_eq_true rfl)) dX8_divided_7 hw) (fun x1 h H locs cells slots hR hw => ?_)
  refine lv_if_ne (tgt := 19) hx hb dX8_divided_10 (by decide) (fun c2 => ?_) (fun c2 => ?_)
  · have hw := hw.1 c2
    refine lv_iload_n hx hb dX8_divided_19 rfl (lv_at hl 2 rfl) ?_
    refine lv_iconst (v := 1) hx hb dX8_divided_20 (by decide) ?_
    refine lv_bipush (v := 9) hx hb dX8_divided_21 (by decide) ?_
    refine r_callI X hR (c_S X hR hl.1 (c_X8_in l g v2 1 9) (lw_S q1834 q1835 q125 q1836) mh_X8_in rfl (by decide) (by decide) rfl (cat4 (Nat.le_of_ble_eq_true rfl)) dX8_divided_23 hw) (fun x3 h H locs cells slots hR hw => ?_)
    refine lv_if_ne (tgt := 35) hx hb dX8_divided_26 (by decide) (fun c4 => ?_) (fun c4 => ?_)
    · have hw := hw.1 c4
      refine lv_iload_n hx hb dX8_divided_35 rfl (lv_at hl 3 rfl) ?_
      refine lv_iconst (v := 0) hx hb dX8_divided_36 (by decide) ?_
      refine lv_iload_n hx hb dX8_divided_37 rfl (lv_at hl 2 rfl) ?_
      refine lv_iconst (v := 1) hx hb dX8_divided_38 (by decide) ?_
      refine lv_isub hx hb dX8_divided_39 ?_
      refine r_callI X hR (c_S X hR hl.1 (c_X8_in l g v3 0 (v2 - 1)) (lw_S q1834 q1835 q125 q1836) mh_X8_in rfl (by decide) (by decide) rfl (cat4 (Nat.le_of_ble_eq_true rfl)) dX8_divided_40 hw) (fun x5 h H locs cells slots hR hw => ?_)
      refine lv_if_ne (tgt := 52) hx hb dX8_divided_43 (by decide) (fun c6 => ?_) (fun c6 => ?_)
      · have hw := hw.1 c6
        refine r_aload_n X dX8_divided_52 rfl (lv_at hl 0 rfl) ?_
        refine r_aload_n X dX8_divided_53 rfl (lv_at hl 0 rfl) ?_
        refine r_gR X hR fk_X8_316 dX8_divided_54 hw (fun x7 hw => ?_)
        refine r_gR X hR fk_X8_273 dX8_divided_57 hw (fun x8 hw => ?_)
        refine lv_iload_n hx hb dX8_divided_60 rfl (lv_at hl 1 rfl) ?_
        refine r_iald X hR dX8_divided_61 hw (fun x9 hw => ?_)
        refine lv_iload_n hx hb dX8_divided_62 rfl (lv_at hl 2 rfl) ?_
        obtain ⟨z10, hw⟩ := hw
        refine lv_idiv hx hb dX8_divided_63 z10 ?_
        refine lv_iload_n hx hb dX8_divided_64 rfl (lv_at hl 3 rfl) ?_
        refine r_aload_n X dX8_divided_65 rfl (lv_at hl 0 rfl) ?_
        refine r_gR X hR fk_X8_316 dX8_divided_66 hw (fun x11 hw => ?_)
        refine r_gR X hR fk_X8_273 dX8_divided_69 hw (fun x12 hw => ?_)
        refine lv_iload_n hx hb dX8_divided_72 rfl (lv_at hl 1 rfl) ?_
        refine r_iald X hR dX8_divided_73 hw (fun x13 hw => ?_)
        refine lv_iload_n hx hb dX8_divided_74 rfl (lv_at hl 2 rfl) ?_
        obtain ⟨z14, hw⟩ := hw
        refine lv_irem hx hb dX8_divided_75 z14 ?_
        refine lv_icmp_ge (tgt := 83) hx hb dX8_divided_76 (by decide) (fun c15 => ?_) (fun c15 => ?_)
        · have hw := hw.1 c15
          refine lv_iconst (v := 0) hx hb dX8_divided_83 (by decide) ?_
          exact t_X8_divided_J84 X  hw hR (lv_sub hl [] rfl)
        · have hw := hw.2 c15
          refine lv_iconst (v := 1) hx hb dX8_divided_79 (by decide) ?_
          refine lv_goto (tgt := 84) hx hb dX8_divided_80 (by decide) ?_
          exact t_X8_divided_J84 X  hw hR (lv_sub hl [] rfl)
      · have hw := hw.2 c6
        refine r_aload_n X dX8_divided_46 rfl (lv_at hl 0 rfl) ?_
        refine lv_iconst (v := 1) hx hb dX8_divided_47 (by decide) ?_
        refine r_callI X hR (c_V (ci := 8) (q := (RX8, TX8, 32)) X hR hl.1 (c_X8_refused l g v0 1) (lw_V q1657 q1659 qs50 q125 q1660) rfl rfl mh_X8_refused rfl (by decide) (by decide) rfl (cat4 (Nat.le_of_ble_eq_true rfl)) dX8_divided_48 hw) (fun x17 h H locs cells slots hR hw => ?_)
        exact r_iret X hR dX8_divided_51 hw
    · have hw := hw.2 c4
      refine r_aload_n X dX8_divided_29 rfl (lv_at hl 0 rfl) ?_
      refine lv_iconst (v := 2) hx hb dX8_divided_30 (by decide) ?_
      refine r_callI X hR (c_V (ci := 8) (q := (RX8, TX8, 32)) X hR hl.1 (c_X8_refused l g v0 2) (lw_V q1657 q1659 qs50 q125 q1660) rfl rfl mh_X8_refused rfl (by decide) (by decide) rfl (cat4 (Nat.le_of_ble_eq_true rfl)) dX8_divided_31 hw) (fun x18 h H locs cells slots hR hw => ?_)
      exact r_iret X hR dX8_divided_34 hw
  · have hw := hw.2 c2
    refine r_aload_n X dX8_divided_13 rfl (lv_at hl 0 rfl) ?_
    refine lv_iconst (v := 1) hx hb dX8_divided_14 (by decide) ?_
    refine r_callI X hR (c_V (ci := 8) (q := (RX8, TX8, 32)) X hR hl.1 (c_X8_refused l g v0 1) (lw_V q1657 q1659 qs50 q125 q1660) rfl rfl mh_X8_refused rfl (by decide) (by decide) rfl (cat4 (Nat.le_of_ble_eq_true rfl)) dX8_divided_15 hw) (fun x19 h H locs cells slots hR hw => ?_)
    exact r_iret X hR dX8_divided_18 hw
theorem c_X8_lost (l : Launch) (g : GT) (v0 : Option Nat) (v1 : Int32) : CT qI l yX8_lost (ws_ yX8_lost cX8_lost 2 (Option.some Jvm.ClassFile.FieldType.int)) 2 g [va_rf v0, .int v1] (fun K E h => w_X8_lost g v0 v1 K E h) := by
  refine CT_of (lv := [(0, va_rf v0), (1, .int v1)]) (by decide +kernel) (by simp [lg_sl, cat_rf, cat_int, cat_long]) (by simp [lv_args, cat_rf, cat_int, cat_long]) (fun h0 K E p e s m args below meth c H locs cells slots ls X hxt hmn hw hR hl => ?_)
  have hx := X.hx
  have hb := X.hb
  unfold w_X8_lost at hw
  refine r_aload_n X dX8_lost_0 rfl (lv_at hl 0 rfl) ?_
  refine lv_iload_n hx hb dX8_lost_1 rfl (lv_at hl 1 rfl) ?_
  refine r_callI X hR (c_V (ci := 8) (q := (RX8, TX8, 32)) X hR hl.1 (c_X8_refused l g v0 v1) (lw_V q1657 q1659 qs50 q125 q1660) rfl rfl mh_X8_refused rfl (by decide) (by decide) rfl (cat4 (Nat.le_of_ble_eq_true rfl)) dX8_lost_2 hw) (fun x1 h H locs cells slots hR hw => ?_)
  refine lv_pop hx hb dX8_lost_5 rfl ?_
  refine lv_bipush (v := (-100)) hx hb dX8_lost_6 (by decide) ?_
  exact r_iret X hR dX8_lost_8 hw
theorem t_X8_gets_J21 {p : Program} {l : Launch} {e : Env} {s : State} {m : MethodId} {args : Array Value} {below : List Frame} {meth : Method} {c : Code} {g : GT} {h0 : AH} {v1 : Int32} {s0 : Int32} {K : Int32 → AH → Prop} {E : Nat → AH → Prop} {h : AH} {H : Heap} {locs : List Loc} {cells slots : Nat} {ls : Array Slot} (X : Cx g h0 p s m args meth c RX8 cX8_gets 3 (Option.some Jvm.ClassFile.FieldType.int))  (hw : w_X8_gets_J21 g v1 s0 K E h) (hR : HS g s h H locs) (hl : lv_has ls 3 [(1, .int v1)]) : W p l e (RM 1 h0) s m args below meth c H locs cells slots (MQT below g (qI K) E args s h0) (F0 m 21 ls [.int s0]) := by
  have hx := X.hx
  have hb := X.hb
  unfold w_X8_gets_J21 at hw
  refine lv_iconst (v := 2) hx hb dX8_gets_21 (by decide) ?_
  refine lv_iload_n hx hb dX8_gets_22 rfl (lv_at hl 0 rfl) ?_
  refine lv_imul hx hb dX8_gets_23 ?_
  refine lv_isub hx hb dX8_gets_24 ?_
  exact r_iret X hR dX8_gets_25 hw
theorem c_X8_gets (l : Launch) (g : GT) (v0 : Int32) (v1 : Int32) (v2 : Int32) : CT qI l yX8_gets (ws_ yX8_gets cX8_gets 3 (Option.some Jvm.ClassFile.FieldType.int)) 1 g [.int v0, .int v1, .int v2] (fun K E h => w_X8_gets g v0 v1 v2 K E h) := by
  refine CT_of (lv := [(0, .int v0), (1, .int v1), (2, .int v2)]) (by decide +kernel) (by simp [lg_sl, cat_rf, cat_int, cat_long]) (by simp [lv_args, cat_rf, cat_int, cat_long]) (fun h0 K E p e s m args below meth c H locs cells slots ls X hxt hmn hw hR hl => ?_)
  have hx := X.hx
  have hb := X.hb
  unfold w_X8_gets at hw
  refine lv_iload_n hx hb dX8_gets_0 rfl (lv_at hl 1 rfl) ?_
  refine lv_iload_n hx hb dX8_gets_1 rfl (lv_at hl 2 rfl) ?_
  refine lv_icmp_le (tgt := 9) hx hb dX8_gets_2 (by decide) (fun c1 => ?_) (fun c1 => ?_)
  · have hw := hw.1 c1
    refine lv_iload_n hx hb dX8_gets_9 rfl (lv_at hl 1 rfl) ?_
    refine lv_iload_n hx hb dX8_gets_10 rfl (lv_at hl 2 rfl) ?_
    refine lv_icmp_ne (tgt := 20) hx hb dX8_gets_11 (by decide) (fun c2 => ?_) (fun c2 => ?_)
    · have hw := hw.1 c2
      refine lv_iconst (v := 0) hx hb dX8_gets_20 (by decide) ?_
      exact t_X8_gets_J21 X  hw hR (lv_sub hl [1] rfl)
    · have hw := hw.2 c2
      refine lv_iload_n hx hb dX8_gets_14 rfl (lv_at hl 0 rfl) ?_
      refine lv_iconst (v := 2) hx hb dX8_gets_15 (by decide) ?_
      refine lv_idiv hx hb dX8_gets_16 (by decide) ?_
      refine lv_goto (tgt := 21) hx hb dX8_gets_17 (by decide) ?_
      exact t_X8_gets_J21 X  hw hR (lv_sub hl [1] rfl)
  · have hw := hw.2 c1
    refine lv_iload_n hx hb dX8_gets_5 rfl (lv_at hl 0 rfl) ?_
    refine lv_goto (tgt := 21) hx hb dX8_gets_6 (by decide) ?_
    exact t_X8_gets_J21 X  hw hR (lv_sub hl [1] rfl)
theorem t_X8_heirs_J48 {p : Program} {l : Launch} {e : Env} {s : State} {m : MethodId} {args : Array Value} {below : List Frame} {meth : Method} {c : Code} {g : GT} {h0 : AH} {v0 : Option Nat} {K : Int32 → AH → Prop} {E : Nat → AH → Prop} {h : AH} {H : Heap} {locs : List Loc} {cells slots : Nat} {ls : Array Slot} (X : Cx g h0 p s m args meth c RX8 cX8_heirs 5 (Option.some Jvm.ClassFile.FieldType.int))  (hw : w_X8_heirs_J48 g v0 K E h) (hR : HS g s h H locs) (hl : lv_has ls 5 [(0, va_rf v0)]) : W p l e (RM 3 h0) s m args below meth c H locs cells slots (MQT below g (qI K) E args s h0) (F0 m 48 ls []) := by
  have hx := X.hx
  have hb := X.hb
  unfold w_X8_heirs_J48 at hw
  refine r_aload_n X dX8_heirs_48 rfl (lv_at hl 0 rfl) ?_
  refine lv_iconst (v := 2) hx hb dX8_heirs_49 (by decide) ?_
  refine r_callI X hR (c_V (ci := 8) (q := (RX8, TX8, 32)) X hR hl.1 (c_X8_lost l g v0 2) (lw_V q2185 q2187 qs106 q125 q2188) rfl rfl mh_X8_lost rfl (by decide) (by decide) rfl (cat4 (Nat.le_of_ble_eq_true rfl)) dX8_heirs_50 hw) (fun x5 h H locs cells slots hR hw => ?_)
  exact r_iret X hR dX8_heirs_53 hw
theorem t_X8_heirs_J75 {p : Program} {l : Launch} {e : Env} {s : State} {m : MethodId} {args : Array Value} {below : List Frame} {meth : Method} {c : Code} {g : GT} {h0 : AH} {s0 : Int32} {s1 : Option Nat} {K : Int32 → AH → Prop} {E : Nat → AH → Prop} {h : AH} {H : Heap} {locs : List Loc} {cells slots : Nat} {ls : Array Slot} (X : Cx g h0 p s m args meth c RX8 cX8_heirs 5 (Option.some Jvm.ClassFile.FieldType.int))  (hw : w_X8_heirs_J75 g  s0 s1 K E h) (hR : HS g s h H locs) (hl : lv_has ls 5 []) : W p l e (RM 3 h0) s m args below meth c H locs cells slots (MQT below g (qI K) E args s h0) (F0 m 75 ls [.int s0, va_rf s1]) := by
  have hx := X.hx
  have hb := X.hb
  unfold w_X8_heirs_J75 at hw
  refine r_callI X hR (c_V (ci := 8) (q := (RX8, TX8, 32)) X hR hl.1 (c_X8_good l g s1 s0) (lw_V q1929 q1931 qs78 q125 q1932) rfl rfl mh_X8_good rfl (by decide) (by decide) rfl (cat4 (Nat.le_of_ble_eq_true rfl)) dX8_heirs_75 hw) (fun x12 h H locs cells slots hR hw => ?_)
  exact r_iret X hR dX8_heirs_78 hw
theorem c_X8_heirs (l : Launch) (g : GT) (v0 : Option Nat) (v1 : Int32) (v2 : Int32) (v3 : Int32) (v4 : Int32) : CT qI l yX8_heirs (ws_ yX8_heirs cX8_heirs 5 (Option.some Jvm.ClassFile.FieldType.int)) 3 g [va_rf v0, .int v1, .int v2, .int v3, .int v4] (fun K E h => w_X8_heirs g v0 v1 v2 v3 v4 K E h) := by
  refine CT_of (lv := [(0, va_rf v0), (1, .int v1), (2, .int v2), (3, .int v3), (4, .int v4)]) (by decide +kernel) (by simp [lg_sl, cat_rf, cat_int, cat_long]) (by simp [lv_args, cat_rf, cat_int, cat_long]) (fun h0 K E p e s m args below meth c H locs cells slots ls X hxt hmn hw hR hl => ?_)
  have hx := X.hx
  have hb := X.hb
  unfold w_X8_heirs at hw
  refine r_aload_n X dX8_heirs_0 rfl (lv_at hl 0 rfl) ?_
  refine lv_iconst (v := 0) hx hb dX8_heirs_1 (by decide) ?_
  refine r_put X hR fp_X8_45 (Or.inl fn_X8_45) (nf_int _) dX8_heirs_2 hw (fun H locs h hR hw => ?_)
  refine r_aload_n X dX8_heirs_5 rfl (lv_at hl 0 rfl) ?_
  refine r_gR X hR fk_X8_316 dX8_heirs_6 hw (fun x1 hw => ?_)
  refine r_ifnonnull (tgt := 18) X dX8_heirs_9 (by decide) (fun c2 => ?_) (fun c2 => ?_)
  · have hw := hw.1 c2
    refine lv_iload_n hx hb dX8_heirs_18 rfl (lv_at hl 1 rfl) ?_
    refine lv_iconst (v := 0) hx hb dX8_heirs_19 (by decide) ?_
    refine lv_bipush (v := 99) hx hb dX8_heirs_20 (by decide) ?_
    refine r_callI X hR (c_S X hR hl.1 (c_X8_in l g v1 0 99) (lw_S q1834 q1835 q125 q1836) mh_X8_in rfl (by decide) (by decide) rfl (cat4 (Nat.le_of_ble_eq_true rfl)) dX8_heirs_22 hw) (fun x3 h H locs cells slots hR hw => ?_)
    refine lv_if_eq (tgt := 48) hx hb dX8_heirs_25 (by decide) (fun c4 => ?_) (fun c4 => ?_)
    · have hw := hw.1 c4
      exact t_X8_heirs_J48 X  hw hR (lv_sub hl [0] rfl)
    · have hw := hw.2 c4
      refine lv_iload_n hx hb dX8_heirs_28 rfl (lv_at hl 2 rfl) ?_
      refine lv_iconst (v := 0) hx hb dX8_heirs_29 (by decide) ?_
      refine lv_bipush (v := 6) hx hb dX8_heirs_30 (by decide) ?_
      refine r_callI X hR (c_S X hR hl.1 (c_X8_in l g v2 0 6) (lw_S q1834 q1835 q125 q1836) mh_X8_in rfl (by decide) (by decide) rfl (cat4 (Nat.le_of_ble_eq_true rfl)) dX8_heirs_32 hw) (fun x6 h H locs cells slots hR hw => ?_)
      refine lv_if_eq (tgt := 48) hx hb dX8_heirs_35 (by decide) (fun c7 => ?_) (fun c7 => ?_)
      · have hw := hw.1 c7
        exact t_X8_heirs_J48 X  hw hR (lv_sub hl [0] rfl)
      · have hw := hw.2 c7
        refine lv_iload_n hx hb dX8_heirs_38 rfl (lv_at hl 3 rfl) ?_
        refine lv_iconst (v := 0) hx hb dX8_heirs_39 (by decide) ?_
        refine lv_bipush (v := 6) hx hb dX8_heirs_40 (by decide) ?_
        refine r_callI X hR (c_S X hR hl.1 (c_X8_in l g v3 0 6) (lw_S q1834 q1835 q125 q1836) mh_X8_in rfl (by decide) (by decide) rfl (cat4 (Nat.le_of_ble_eq_true rfl)) dX8_heirs_42 hw) (fun x8 h H locs cells slots hR hw => ?_)
        refine lv_if_ne (tgt := 54) hx hb dX8_heirs_45 (by decide) (fun c9 => ?_) (fun c9 => ?_)
        · have hw := hw.1 c9
          refine r_aload_n X dX8_heirs_54 rfl (lv_at hl 0 rfl) ?_
          refine lv_iload hx hb dX8_heirs_55 (lv_at hl 4 rfl) ?_
          refine lv_if_eq (tgt := 69) hx hb dX8_heirs_57 (by decide) (fun c10 => ?_) (fun c10 => ?_)
          · have hw := hw.1 c10
            refine lv_iload_n hx hb dX8_heirs_69 rfl (lv_at hl 1 rfl) ?_
            refine lv_iload_n hx hb dX8_heirs_70 rfl (lv_at hl 2 rfl) ?_
            refine lv_iload_n hx hb dX8_heirs_71 rfl (lv_at hl 3 rfl) ?_
            refine r_callI X hR (c_S X hR hl.1 (c_X8_gets l g v1 v2 v3) (lw_S q2189 q2190 q125 q2191) mh_X8_gets rfl (by decide) (by decide) rfl (cat4 (Nat.le_of_ble_eq_true rfl)) dX8_heirs_72 hw) (fun x11 h H locs cells slots hR hw => ?_)
            exact t_X8_heirs_J75 X  hw hR (lv_sub hl [] rfl)
          · have hw := hw.2 c10
            refine lv_iload_n hx hb dX8_heirs_60 rfl (lv_at hl 1 rfl) ?_
            refine lv_iload_n hx hb dX8_heirs_61 rfl (lv_at hl 3 rfl) ?_
            refine lv_iload_n hx hb dX8_heirs_62 rfl (lv_at hl 2 rfl) ?_
            refine r_callI X hR (c_S X hR hl.1 (c_X8_gets l g v1 v3 v2) (lw_S q2189 q2190 q125 q2191) mh_X8_gets rfl (by decide) (by decide) rfl (cat4 (Nat.le_of_ble_eq_true rfl)) dX8_heirs_63 hw) (fun x13 h H locs cells slots hR hw => ?_)
            refine lv_goto (tgt := 75) hx hb dX8_heirs_66 (by decide) ?_
            exact t_X8_heirs_J75 X  hw hR (lv_sub hl [] rfl)
        · have hw := hw.2 c9
          exact t_X8_heirs_J48 X  hw hR (lv_sub hl [0] rfl)
  · have hw := hw.2 c2
    refine r_aload_n X dX8_heirs_12 rfl (lv_at hl 0 rfl) ?_
    refine lv_iconst (v := 1) hx hb dX8_heirs_13 (by decide) ?_
    refine r_callI X hR (c_V (ci := 8) (q := (RX8, TX8, 32)) X hR hl.1 (c_X8_lost l g v0 1) (lw_V q2185 q2187 qs106 q125 q2188) rfl rfl mh_X8_lost rfl (by decide) (by decide) rfl (cat4 (Nat.le_of_ble_eq_true rfl)) dX8_heirs_14 hw) (fun x14 h H locs cells slots hR hw => ?_)
    exact r_iret X hR dX8_heirs_17 hw
theorem c_X8_refusesRests (l : Launch) (g : GT) (v0 : Option Nat) (v1 : Int32) : CT qI l yX8_refusesRests (ws_ yX8_refusesRests cX8_refusesRests 2 (Option.some Jvm.ClassFile.FieldType.int)) 2 g [va_rf v0, .int v1] (fun K E h => w_X8_refusesRests g v0 v1 K E h) := by
  refine CT_of (lv := [(0, va_rf v0), (1, .int v1)]) (by decide +kernel) (by simp [lg_sl, cat_rf, cat_int, cat_long]) (by simp [lv_args, cat_rf, cat_int, cat_long]) (fun h0 K E p e s m args below meth c H locs cells slots ls X hxt hmn hw hR hl => ?_)
  have hx := X.hx
  have hb := X.hb
  unfold w_X8_refusesRests at hw
  refine r_aload_n X dX8_refusesRests_0 rfl (lv_at hl 0 rfl) ?_
  refine r_gR X hR fk_X8_316 dX8_refusesRests_1 hw (fun x1 hw => ?_)
  refine r_ifnonnull (tgt := 11) X dX8_refusesRests_4 (by decide) (fun c2 => ?_) (fun c2 => ?_)
  · have hw := hw.1 c2
    refine lv_iload_n hx hb dX8_refusesRests_11 rfl (lv_at hl 1 rfl) ?_
    refine lv_iconst (v := 0) hx hb dX8_refusesRests_12 (by decide) ?_
    refine lv_bipush (v := 99) hx hb dX8_refusesRests_13 (by decide) ?_
    refine r_callI X hR (c_S X hR hl.1 (c_X8_in l g v1 0 99) (lw_S q1834 q1835 q125 q1836) mh_X8_in rfl (by decide) (by decide) rfl (cat4 (Nat.le_of_ble_eq_true rfl)) dX8_refusesRests_15 hw) (fun x3 h H locs cells slots hR hw => ?_)
    refine lv_if_eq (tgt := 25) hx hb dX8_refusesRests_18 (by decide) (fun c4 => ?_) (fun c4 => ?_)
    · have hw := hw.1 c4
      refine lv_iconst (v := 2) hx hb dX8_refusesRests_25 (by decide) ?_
      exact r_iret X hR dX8_refusesRests_26 hw
    · have hw := hw.2 c4
      refine lv_iconst (v := 0) hx hb dX8_refusesRests_21 (by decide) ?_
      refine lv_goto (tgt := 26) hx hb dX8_refusesRests_22 (by decide) ?_
      exact r_iret X hR dX8_refusesRests_26 hw
  · have hw := hw.2 c2
    refine lv_iconst (v := 1) hx hb dX8_refusesRests_7 (by decide) ?_
    refine lv_goto (tgt := 26) hx hb dX8_refusesRests_8 (by decide) ?_
    exact r_iret X hR dX8_refusesRests_26 hw
theorem t_X8_isRest_L2 {p : Program} {l : Launch} {e : Env} {s : State} {m : MethodId} {args : Array Value} {below : List Frame} {meth : Method} {c : Code} {g : GT} {h0 : AH} {v0 : Int32} {v1 : Int32} {v2 : Int32} {K : Int32 → AH → Prop} {E : Nat → AH → Prop} (X : Cx g h0 p s m args meth c RX8 cX8_isRest 4 (Option.some Jvm.ClassFile.FieldType.boolean))  : ∀ (n : Nat) {v3 : Int32} {h : AH} {H : Heap} {locs : List Loc} {cells slots : Nat} {ls : Array Slot}, LpN1 (w_X8_isRest_L2 g v0 v1 v2 K E) n v3 h → HS g s h H locs → lv_has ls 4 [(0, .int v0), (1, .int v1), (2, .int v2), (3, .int v3)] → W p l e (RM 2 h0) s m args below meth c H locs cells slots (MQT below g (qI K) E args s h0) (F0 m 2 ls []) := by
  have hx := X.hx
  have hb := X.hb
  intro n
  induction n with
  | zero =>
    intro v3 h H locs cells slots ls hw
    exact hw.elim
  | succ n k2 =>
    intro v3 h H locs cells slots ls hw hR hl
    have hw : w_X8_isRest_L2 g v0 v1 v2 K E (LpN1 (w_X8_isRest_L2 g v0 v1 v2 K E) n) v3 h := hw
    unfold w_X8_isRest_L2 at hw
    refine lv_iload_n hx hb dX8_isRest_2 rfl (lv_at hl 3 rfl) ?_
    refine lv_bipush (v := 7) hx hb dX8_isRest_3 (by decide) ?_
    refine lv_icmp_ge (tgt := 46) hx hb dX8_isRest_5 (by decide) (fun c1 => ?_) (fun c1 => ?_)
    · have hw := hw.1 c1
      refine lv_iconst (v := 1) hx hb dX8_isRest_46 (by decide) ?_
      exact r_zret X hR dX8_isRest_47 hw
    · have hw := hw.2 c1
      refine lv_iload_n hx hb dX8_isRest_8 rfl (lv_at hl 0 rfl) ?_
      refine lv_iload_n hx hb dX8_isRest_9 rfl (lv_at hl 3 rfl) ?_
      refine lv_iload_n hx hb dX8_isRest_10 rfl (lv_at hl 2 rfl) ?_
      refine r_callI X hR (c_S X hR hl.1 (c_X8_gets l g v0 v3 v2) (lw_S q2189 q2190 q125 q2191) mh_X8_gets rfl (by decide) (by decide) rfl (cat4 (Nat.le_of_ble_eq_true rfl)) dX8_isRest_11 hw) (fun x2 h H locs cells slots hR hw => ?_)
      refine lv_iload_n hx hb dX8_isRest_14 rfl (lv_at hl 0 rfl) ?_
      refine lv_iload_n hx hb dX8_isRest_15 rfl (lv_at hl 1 rfl) ?_
      refine lv_iload_n hx hb dX8_isRest_16 rfl (lv_at hl 2 rfl) ?_
      refine r_callI X hR (c_S X hR hl.1 (c_X8_gets l g v0 v1 v2) (lw_S q2189 q2190 q125 q2191) mh_X8_gets rfl (by decide) (by decide) rfl (cat4 (Nat.le_of_ble_eq_true rfl)) dX8_isRest_17 hw) (fun x3 h H locs cells slots hR hw => ?_)
      refine lv_icmp_gt (tgt := 38) hx hb dX8_isRest_20 (by decide) (fun c4 => ?_) (fun c4 => ?_)
      · have hw := hw.1 c4
        refine lv_iconst (v := 0) hx hb dX8_isRest_38 (by decide) ?_
        exact r_zret X hR dX8_isRest_39 hw
      · have hw := hw.2 c4
        refine lv_iload_n hx hb dX8_isRest_23 rfl (lv_at hl 0 rfl) ?_
        refine lv_iload_n hx hb dX8_isRest_24 rfl (lv_at hl 3 rfl) ?_
        refine lv_iload_n hx hb dX8_isRest_25 rfl (lv_at hl 1 rfl) ?_
        refine r_callI X hR (c_S X hR hl.1 (c_X8_gets l g v0 v3 v1) (lw_S q2189 q2190 q125 q2191) mh_X8_gets rfl (by decide) (by decide) rfl (cat4 (Nat.le_of_ble_eq_true rfl)) dX8_isRest_26 hw) (fun x5 h H locs cells slots hR hw => ?_)
        refine lv_iload_n hx hb dX8_isRest_29 rfl (lv_at hl 0 rfl) ?_
        refine lv_iload_n hx hb dX8_isRest_30 rfl (lv_at hl 2 rfl) ?_
        refine lv_iload_n hx hb dX8_isRest_31 rfl (lv_at hl 1 rfl) ?_
        refine r_callI X hR (c_S X hR hl.1 (c_X8_gets l g v0 v2 v1) (lw_S q2189 q2190 q125 q2191) mh_X8_gets rfl (by decide) (by decide) rfl (cat4 (Nat.le_of_ble_eq_true rfl)) dX8_isRest_32 hw) (fun x6 h H locs cells slots hR hw => ?_)
        refine lv_icmp_le (tgt := 40) hx hb dX8_isRest_35 (by decide) (fun c7 => ?_) (fun c7 => ?_)
        · have hw := hw.1 c7
          refine r_iinc X (k := 3) (v := (v3 + 1)) (lv' := fun x8 => [(3, .int x8), (0, .int v0), (1, .int v1), (2, .int v2)]) dX8_isRest_40 hl rfl rfl (by decide) hw (fun _ => rfl) (fun x8 hw ls hl => ?_)
          refine lv_goto (tgt := 2) hx hb dX8_isRest_43 (by decide) ?_
          exact k2 hw hR (lv_sub hl [1, 2, 3, 0] rfl)
        · have hw := hw.2 c7
          refine lv_iconst (v := 0) hx hb dX8_isRest_38 (by decide) ?_
          exact r_zret X hR dX8_isRest_39 hw
theorem c_X8_isRest (l : Launch) (g : GT) (v0 : Int32) (v1 : Int32) (v2 : Int32) : CT qI l yX8_isRest (ws_ yX8_isRest cX8_isRest 4 (Option.some Jvm.ClassFile.FieldType.boolean)) 2 g [.int v0, .int v1, .int v2] (fun K E h => w_X8_isRest g v0 v1 v2 K E h) := by
  refine CT_of (lv := [(0, .int v0), (1, .int v1), (2, .int v2)]) (by decide +kernel) (by simp [lg_sl, cat_rf, cat_int, cat_long]) (by simp [lv_args, cat_rf, cat_int, cat_long]) (fun h0 K E p e s m args below meth c H locs cells slots ls X hxt hmn hw hR hl => ?_)
  have hx := X.hx
  have hb := X.hb
  unfold w_X8_isRest at hw
  refine lv_iconst (v := 0) hx hb dX8_isRest_0 (by decide) ?_
  refine lv_istore_n (i := 3) (lv' := [(3, .int 0), (0, .int v0), (1, .int v1), (2, .int v2)]) hx hb dX8_isRest_1 rfl hl (by decide) rfl (fun ls hl => ?_)
  obtain ⟨n, hw⟩ := hw
  exact t_X8_isRest_L2 X  n hw hR (lv_sub hl [1, 2, 3, 0] rfl)
theorem t_X8_rests_J56 {p : Program} {l : Launch} {e : Env} {s : State} {m : MethodId} {args : Array Value} {below : List Frame} {meth : Method} {c : Code} {g : GT} {h0 : AH} {v0 : Option Nat} {v1 : Int32} {v4 : Int32} {s0 : Int32} {s1 : Int32} {K : Int32 → AH → Prop} {E : Nat → AH → Prop} {L26 : Int32 → Int32 → AH → Prop} {h : AH} {H : Heap} {locs : List Loc} {cells slots : Nat} {ls : Array Slot} (X : Cx g h0 p s m args meth c RX8 cX8_rests 5 (Option.some Jvm.ClassFile.FieldType.int)) (k26 : ∀ {v3' : Int32} {v4' : Int32} {h : AH} {H : Heap} {locs : List Loc} {cells slots : Nat} {ls : Array Slot}, L26 v3' v4' h → HS g s h H locs → lv_has ls 5 [(0, va_rf v0), (1, .int v1), (3, .int (v3')), (4, .int (v4'))] → W p l e (RM 3 h0) s m args below meth c H locs cells slots (MQT below g (qI K) E args s h0) (F0 m 26 ls [])) (hw : w_X8_rests_J56 g v0 v1 v4 s0 s1 K E L26 h) (hR : HS g s h H locs) (hl : lv_has ls 5 [(0, va_rf v0), (1, .int v1), (4, .int v4)]) : W p l e (RM 3 h0) s m args below meth c H locs cells slots (MQT below g (qI K) E args s h0) (F0 m 56 ls [.int s0, .int s1]) := by
  have hx := X.hx
  have hb := X.hb
  unfold w_X8_rests_J56 at hw
  refine lv_iadd hx hb dX8_rests_56 ?_
  refine r_nmI hw (fun x7 hw => ?_)
  refine lv_istore_n (i := 3) (lv' := [(3, .int x7), (0, va_rf v0), (1, .int v1), (4, .int v4)]) hx hb dX8_rests_57 rfl hl (by decide) rfl (fun ls hl => ?_)
  refine r_iinc X (k := 3) (v := (v4 + 1)) (lv' := fun x8 => [(4, .int x8), (3, .int x7), (0, va_rf v0), (1, .int v1)]) dX8_rests_58 hl rfl rfl (by decide) hw (fun _ => rfl) (fun x8 hw ls hl => ?_)
  refine lv_goto (tgt := 26) hx hb dX8_rests_61 (by decide) ?_
  exact k26 hw hR (lv_sub hl [2, 3, 1, 0] rfl)
theorem t_X8_rests_L26 {p : Program} {l : Launch} {e : Env} {s : State} {m : MethodId} {args : Array Value} {below : List Frame} {meth : Method} {c : Code} {g : GT} {h0 : AH} {v0 : Option Nat} {v1 : Int32} {K : Int32 → AH → Prop} {E : Nat → AH → Prop} (X : Cx g h0 p s m args meth c RX8 cX8_rests 5 (Option.some Jvm.ClassFile.FieldType.int))  : ∀ (n : Nat) {v3 : Int32} {v4 : Int32} {h : AH} {H : Heap} {locs : List Loc} {cells slots : Nat} {ls : Array Slot}, LpN2 (w_X8_rests_L26 g v0 v1 K E) n v3 v4 h → HS g s h H locs → lv_has ls 5 [(0, va_rf v0), (1, .int v1), (3, .int v3), (4, .int v4)] → W p l e (RM 3 h0) s m args below meth c H locs cells slots (MQT below g (qI K) E args s h0) (F0 m 26 ls []) := by
  have hx := X.hx
  have hb := X.hb
  intro n
  induction n with
  | zero =>
    intro v3 v4 h H locs cells slots ls hw
    exact hw.elim
  | succ n k26 =>
    intro v3 v4 h H locs cells slots ls hw hR hl
    have hw : w_X8_rests_L26 g v0 v1 K E (LpN2 (w_X8_rests_L26 g v0 v1 K E) n) v3 v4 h := hw
    unfold w_X8_rests_L26 at hw
    refine lv_iload hx hb dX8_rests_26 (lv_at hl 3 rfl) ?_
    refine lv_bipush (v := 49) hx hb dX8_rests_28 (by decide) ?_
    refine lv_icmp_ge (tgt := 64) hx hb dX8_rests_30 (by decide) (fun c3 => ?_) (fun c3 => ?_)
    · have hw := hw.1 c3
      refine r_aload_n X dX8_rests_64 rfl (lv_at hl 0 rfl) ?_
      refine lv_iload_n hx hb dX8_rests_65 rfl (lv_at hl 2 rfl) ?_
      refine r_callI X hR (c_V (ci := 8) (q := (RX8, TX8, 32)) X hR hl.1 (c_X8_good l g v0 v3) (lw_V q1929 q1931 qs78 q125 q1932) rfl rfl mh_X8_good rfl (by decide) (by decide) rfl (cat4 (Nat.le_of_ble_eq_true rfl)) dX8_rests_66 hw) (fun x4 h H locs cells slots hR hw => ?_)
      exact r_iret X hR dX8_rests_69 hw
    · have hw := hw.2 c3
      refine lv_iload_n hx hb dX8_rests_33 rfl (lv_at hl 2 rfl) ?_
      refine lv_iload_n hx hb dX8_rests_34 rfl (lv_at hl 1 rfl) ?_
      refine lv_iload hx hb dX8_rests_35 (lv_at hl 3 rfl) ?_
      refine lv_bipush (v := 7) hx hb dX8_rests_37 (by decide) ?_
      refine lv_idiv hx hb dX8_rests_39 (by decide) ?_
      refine lv_iload hx hb dX8_rests_40 (lv_at hl 3 rfl) ?_
      refine lv_bipush (v := 7) hx hb dX8_rests_42 (by decide) ?_
      refine lv_irem hx hb dX8_rests_44 (by decide) ?_
      refine r_callI X hR (c_S X hR hl.1 (c_X8_isRest l g v1 (v4 / 7) (v4 - v4 / 7 * 7)) (lw_S q2200 q2201 q125 q2202) mh_X8_isRest rfl (by decide) (by decide) rfl (cat4 (Nat.le_of_ble_eq_true rfl)) dX8_rests_45 hw) (fun x5 h H locs cells slots hR hw => ?_)
      refine lv_if_eq (tgt := 55) hx hb dX8_rests_48 (by decide) (fun c6 => ?_) (fun c6 => ?_)
      · have hw := hw.1 c6
        refine lv_iconst (v := 0) hx hb dX8_rests_55 (by decide) ?_
        exact t_X8_rests_J56 X k26 hw hR (lv_sub hl [0, 1, 3] rfl)
      · have hw := hw.2 c6
        refine lv_iconst (v := 1) hx hb dX8_rests_51 (by decide) ?_
        refine lv_goto (tgt := 56) hx hb dX8_rests_52 (by decide) ?_
        exact t_X8_rests_J56 X k26 hw hR (lv_sub hl [0, 1, 3] rfl)
theorem c_X8_rests (l : Launch) (g : GT) (v0 : Option Nat) (v1 : Int32) : CT qI l yX8_rests (ws_ yX8_rests cX8_rests 5 (Option.some Jvm.ClassFile.FieldType.int)) 3 g [va_rf v0, .int v1] (fun K E h => w_X8_rests g v0 v1 K E h) := by
  refine CT_of (lv := [(0, va_rf v0), (1, .int v1)]) (by decide +kernel) (by simp [lg_sl, cat_rf, cat_int, cat_long]) (by simp [lv_args, cat_rf, cat_int, cat_long]) (fun h0 K E p e s m args below meth c H locs cells slots ls X hxt hmn hw hR hl => ?_)
  have hx := X.hx
  have hb := X.hb
  unfold w_X8_rests at hw
  refine r_aload_n X dX8_rests_0 rfl (lv_at hl 0 rfl) ?_
  refine lv_iconst (v := 0) hx hb dX8_rests_1 (by decide) ?_
  refine r_put X hR fp_X8_45 (Or.inl fn_X8_45) (nf_int _) dX8_rests_2 hw (fun H locs h hR hw => ?_)
  refine r_aload_n X dX8_rests_5 rfl (lv_at hl 0 rfl) ?_
  refine lv_iload_n hx hb dX8_rests_6 rfl (lv_at hl 1 rfl) ?_
  refine r_callI X hR (c_V (ci := 8) (q := (RX8, TX8, 32)) X hR hl.1 (c_X8_refusesRests l g v0 v1) (lw_V q2196 q2198 qs107 q125 q2199) rfl rfl mh_X8_refusesRests rfl (by decide) (by decide) rfl (cat4 (Nat.le_of_ble_eq_true rfl)) dX8_rests_7 hw) (fun x1 h H locs cells slots hR hw => ?_)
  refine lv_istore_n (i := 2) (lv' := [(2, .int x1), (0, va_rf v0), (1, .int v1)]) hx hb dX8_rests_10 rfl hl (by decide) rfl (fun ls hl => ?_)
  refine lv_iload_n hx hb dX8_rests_11 rfl (lv_at hl 0 rfl) ?_
  refine lv_if_le (tgt := 21) hx hb dX8_rests_12 (by decide) (fun c2 => ?_) (fun c2 => ?_)
  · have hw := hw.1 c2
    refine lv_iconst (v := 0) hx hb dX8_rests_21 (by decide) ?_
    refine lv_istore_n (i := 3) (lv' := [(3, .int 0), (2, .int x1), (0, va_rf v0), (1, .int v1)]) hx hb dX8_rests_22 rfl hl (by decide) rfl (fun ls hl => ?_)
    refine lv_iconst (v := 0) hx hb dX8_rests_23 (by decide) ?_
    refine lv_istore (i := 4) (lv' := [(4, .int 0), (3, .int 0), (2, .int x1), (0, va_rf v0), (1, .int v1)]) hx hb dX8_rests_24 hl (by decide) rfl (fun ls hl => ?_)
    obtain ⟨n, hw⟩ := hw
    exact t_X8_rests_L26 X  n hw hR (lv_sub hl [3, 4, 1, 0] rfl)
  · have hw := hw.2 c2
    refine r_aload_n X dX8_rests_15 rfl (lv_at hl 1 rfl) ?_
    refine lv_iload_n hx hb dX8_rests_16 rfl (lv_at hl 0 rfl) ?_
    refine r_callI X hR (c_V (ci := 8) (q := (RX8, TX8, 32)) X hR hl.1 (c_X8_refused l g v0 x1) (lw_V q1657 q1659 qs50 q125 q1660) rfl rfl mh_X8_refused rfl (by decide) (by decide) rfl (cat4 (Nat.le_of_ble_eq_true rfl)) dX8_rests_17 hw) (fun x9 h H locs cells slots hR hw => ?_)
    exact r_iret X hR dX8_rests_20 hw
theorem t_X8_rest_L23 {p : Program} {l : Launch} {e : Env} {s : State} {m : MethodId} {args : Array Value} {below : List Frame} {meth : Method} {c : Code} {g : GT} {h0 : AH} {v0 : Option Nat} {v1 : Int32} {K : Int32 → AH → Prop} {E : Nat → AH → Prop} (X : Cx g h0 p s m args meth c RX8 cX8_rest 4 (Option.some Jvm.ClassFile.FieldType.int))  : ∀ (n : Nat) {v3 : Int32} {h : AH} {H : Heap} {locs : List Loc} {cells slots : Nat} {ls : Array Slot}, LpN1 (w_X8_rest_L23 g v0 v1 K E) n v3 h → HS g s h H locs → lv_has ls 4 [(0, va_rf v0), (1, .int v1), (3, .int v3)] → W p l e (RM 3 h0) s m args below meth c H locs cells slots (MQT below g (qI K) E args s h0) (F0 m 23 ls []) := by
  have hx := X.hx
  have hb := X.hb
  intro n
  induction n with
  | zero =>
    intro v3 h H locs cells slots ls hw
    exact hw.elim
  | succ n k23 =>
    intro v3 h H locs cells slots ls hw hR hl
    have hw : w_X8_rest_L23 g v0 v1 K E (LpN1 (w_X8_rest_L23 g v0 v1 K E) n) v3 h := hw
    unfold w_X8_rest_L23 at hw
    refine lv_iload_n hx hb dX8_rest_23 rfl (lv_at hl 2 rfl) ?_
    refine lv_bipush (v := 49) hx hb dX8_rest_24 (by decide) ?_
    refine lv_icmp_ge (tgt := 67) hx hb dX8_rest_26 (by decide) (fun c3 => ?_) (fun c3 => ?_)
    · have hw := hw.1 c3
      refine r_aload_n X dX8_rest_67 rfl (lv_at hl 0 rfl) ?_
      refine lv_bipush (v := (-2)) hx hb dX8_rest_68 (by decide) ?_
      refine r_callI X hR (c_V (ci := 8) (q := (RX8, TX8, 32)) X hR hl.1 (c_X8_good l g v0 (-2)) (lw_V q1929 q1931 qs78 q125 q1932) rfl rfl mh_X8_good rfl (by decide) (by decide) rfl (cat4 (Nat.le_of_ble_eq_true rfl)) dX8_rest_70 hw) (fun x4 h H locs cells slots hR hw => ?_)
      exact r_iret X hR dX8_rest_73 hw
    · have hw := hw.2 c3
      refine lv_iload_n hx hb dX8_rest_29 rfl (lv_at hl 1 rfl) ?_
      refine lv_iload_n hx hb dX8_rest_30 rfl (lv_at hl 2 rfl) ?_
      refine lv_bipush (v := 7) hx hb dX8_rest_31 (by decide) ?_
      refine lv_idiv hx hb dX8_rest_33 (by decide) ?_
      refine lv_iload_n hx hb dX8_rest_34 rfl (lv_at hl 2 rfl) ?_
      refine lv_bipush (v := 7) hx hb dX8_rest_35 (by decide) ?_
      refine lv_irem hx hb dX8_rest_37 (by decide) ?_
      refine r_callI X hR (c_S X hR hl.1 (c_X8_isRest l g v1 (v3 / 7) (v3 - v3 / 7 * 7)) (lw_S q2200 q2201 q125 q2202) mh_X8_isRest rfl (by decide) (by decide) rfl (cat4 (Nat.le_of_ble_eq_true rfl)) dX8_rest_38 hw) (fun x5 h H locs cells slots hR hw => ?_)
      refine lv_if_eq (tgt := 61) hx hb dX8_rest_41 (by decide) (fun c6 => ?_) (fun c6 => ?_)
      · have hw := hw.1 c6
        refine r_iinc X (k := 2) (v := (v3 + 1)) (lv' := fun x7 => [(3, .int x7), (0, va_rf v0), (1, .int v1)]) dX8_rest_61 hl rfl rfl (by decide) hw (fun _ => rfl) (fun x7 hw ls hl => ?_)
        refine lv_goto (tgt := 23) hx hb dX8_rest_64 (by decide) ?_
        exact k23 hw hR (lv_sub hl [1, 2, 0] rfl)
      · have hw := hw.2 c6
        refine r_aload_n X dX8_rest_44 rfl (lv_at hl 0 rfl) ?_
        refine lv_bipush (v := 10) hx hb dX8_rest_45 (by decide) ?_
        refine lv_iload_n hx hb dX8_rest_47 rfl (lv_at hl 2 rfl) ?_
        refine lv_bipush (v := 7) hx hb dX8_rest_48 (by decide) ?_
        refine lv_idiv hx hb dX8_rest_50 (by decide) ?_
        refine lv_imul hx hb dX8_rest_51 ?_
        refine lv_iload_n hx hb dX8_rest_52 rfl (lv_at hl 2 rfl) ?_
        refine lv_bipush (v := 7) hx hb dX8_rest_53 (by decide) ?_
        refine lv_irem hx hb dX8_rest_55 (by decide) ?_
        refine lv_iadd hx hb dX8_rest_56 ?_
        refine r_callI X hR (c_V (ci := 8) (q := (RX8, TX8, 32)) X hR hl.1 (c_X8_good l g v0 ((10 * (v3 / 7)) + (v3 - v3 / 7 * 7))) (lw_V q1929 q1931 qs78 q125 q1932) rfl rfl mh_X8_good rfl (by decide) (by decide) rfl (cat4 (Nat.le_of_ble_eq_true rfl)) dX8_rest_57 hw) (fun x8 h H locs cells slots hR hw => ?_)
        exact r_iret X hR dX8_rest_60 hw
theorem c_X8_rest (l : Launch) (g : GT) (v0 : Option Nat) (v1 : Int32) : CT qI l yX8_rest (ws_ yX8_rest cX8_rest 4 (Option.some Jvm.ClassFile.FieldType.int)) 3 g [va_rf v0, .int v1] (fun K E h => w_X8_rest g v0 v1 K E h) := by
  refine CT_of (lv := [(0, va_rf v0), (1, .int v1)]) (by decide +kernel) (by simp [lg_sl, cat_rf, cat_int, cat_long]) (by simp [lv_args, cat_rf, cat_int, cat_long]) (fun h0 K E p e s m args below meth c H locs cells slots ls X hxt hmn hw hR hl => ?_)
  have hx := X.hx
  have hb := X.hb
  unfold w_X8_rest at hw
  refine r_aload_n X dX8_rest_0 rfl (lv_at hl 0 rfl) ?_
  refine lv_iconst (v := 0) hx hb dX8_rest_1 (by decide) ?_
  refine r_put X hR fp_X8_45 (Or.inl fn_X8_45) (nf_int _) dX8_rest_2 hw (fun H locs h hR hw => ?_)
  refine r_aload_n X dX8_rest_5 rfl (lv_at hl 0 rfl) ?_
  refine lv_iload_n hx hb dX8_rest_6 rfl (lv_at hl 1 rfl) ?_
  refine r_callI X hR (c_V (ci := 8) (q := (RX8, TX8, 32)) X hR hl.1 (c_X8_refusesRests l g v0 v1) (lw_V q2196 q2198 qs107 q125 q2199) rfl rfl mh_X8_refusesRests rfl (by decide) (by decide) rfl (cat4 (Nat.le_of_ble_eq_true rfl)) dX8_rest_7 hw) (fun x1 h H locs cells slots hR hw => ?_)
  refine lv_istore_n (i := 2) (lv' := [(2, .int x1), (0, va_rf v0), (1, .int v1)]) hx hb dX8_rest_10 rfl hl (by decide) rfl (fun ls hl => ?_)
  refine lv_iload_n hx hb dX8_rest_11 rfl (lv_at hl 0 rfl) ?_
  refine lv_if_le (tgt := 21) hx hb dX8_rest_12 (by decide) (fun c2 => ?_) (fun c2 => ?_)
  · have hw := hw.1 c2
    refine lv_iconst (v := 0) hx hb dX8_rest_21 (by decide) ?_
    refine lv_istore_n (i := 3) (lv' := [(3, .int 0), (2, .int x1), (0, va_rf v0), (1, .int v1)]) hx hb dX8_rest_22 rfl hl (by decide) rfl (fun ls hl => ?_)
    obtain ⟨n, hw⟩ := hw
    exact t_X8_rest_L23 X  n hw hR (lv_sub hl [2, 3, 0] rfl)
  · have hw := hw.2 c2
    refine r_aload_n X dX8_rest_15 rfl (lv_at hl 1 rfl) ?_
    refine lv_iload_n hx hb dX8_rest_16 rfl (lv_at hl 0 rfl) ?_
    refine r_callI X hR (c_V (ci := 8) (q := (RX8, TX8, 32)) X hR hl.1 (c_X8_refused l g v0 x1) (lw_V q1657 q1659 qs50 q125 q1660) rfl rfl mh_X8_refused rfl (by decide) (by decide) rfl (cat4 (Nat.le_of_ble_eq_true rfl)) dX8_rest_17 hw) (fun x9 h H locs cells slots hR hw => ?_)
    exact r_iret X hR dX8_rest_20 hw
theorem t_X8_mosts_J76 {p : Program} {l : Launch} {e : Env} {s : State} {m : MethodId} {args : Array Value} {below : List Frame} {meth : Method} {c : Code} {g : GT} {h0 : AH} {v0 : Option Nat} {v1 : Int32} {v2 : Int32} {v3 : Int32} {K : Int32 → AH → Prop} {E : Nat → AH → Prop} {L4 : Int32 → Int32 → AH → Prop} {h : AH} {H : Heap} {locs : List Loc} {cells slots : Nat} {ls : Array Slot} (X : Cx g h0 p s m args meth c RX8 cX8_mosts 4 (Option.some Jvm.ClassFile.FieldType.int)) (k4 : ∀ {v2' : Int32} {v3' : Int32} {h : AH} {H : Heap} {locs : List Loc} {cells slots : Nat} {ls : Array Slot}, L4 v2' v3' h → HS g s h H locs → lv_has ls 4 [(0, va_rf v0), (1, .int v1), (2, .int (v2')), (3, .int (v3'))] → W p l e (RM 4 h0) s m args below meth c H locs cells slots (MQT below g (qI K) E args s h0) (F0 m 4 ls [])) (hw : w_X8_mosts_J76 g v0 v1 v2 v3 K E L4 h) (hR : HS g s h H locs) (hl : lv_has ls 4 [(0, va_rf v0), (1, .int v1), (2, .int v2), (3, .int v3)]) : W p l e (RM 4 h0) s m args below meth c H locs cells slots (MQT below g (qI K) E args s h0) (F0 m 76 ls []) := by
  have hx := X.hx
  have hb := X.hb
  unfold w_X8_mosts_J76 at hw
  refine r_iinc X (k := 3) (v := (v3 + 1)) (lv' := fun x9 => [(3, .int x9), (0, va_rf v0), (1, .int v1), (2, .int v2)]) dX8_mosts_76 hl rfl rfl (by decide) hw (fun _ => rfl) (fun x9 hw ls hl => ?_)
  refine lv_goto (tgt := 4) hx hb dX8_mosts_79 (by decide) ?_
  exact k4 hw hR (lv_sub hl [1, 2, 3, 0] rfl)
theorem t_X8_mosts_J61 {p : Program} {l : Launch} {e : Env} {s : State} {m : MethodId} {args : Array Value} {below : List Frame} {meth : Method} {c : Code} {g : GT} {h0 : AH} {v0 : Option Nat} {v1 : Int32} {v3 : Int32} {K : Int32 → AH → Prop} {E : Nat → AH → Prop} {L4 : Int32 → Int32 → AH → Prop} {h : AH} {H : Heap} {locs : List Loc} {cells slots : Nat} {ls : Array Slot} (X : Cx g h0 p s m args meth c RX8 cX8_mosts 4 (Option.some Jvm.ClassFile.FieldType.int)) (k4 : ∀ {v2' : Int32} {v3' : Int32} {h : AH} {H : Heap} {locs : List Loc} {cells slots : Nat} {ls : Array Slot}, L4 v2' v3' h → HS g s h H locs → lv_has ls 4 [(0, va_rf v0), (1, .int v1), (2, .int (v2')), (3, .int (v3'))] → W p l e (RM 4 h0) s m args below meth c H locs cells slots (MQT below g (qI K) E args s h0) (F0 m 4 ls [])) (hw : w_X8_mosts_J61 g v0 v1 v3 K E L4 h) (hR : HS g s h H locs) (hl : lv_has ls 4 [(0, va_rf v0), (1, .int v1), (3, .int v3)]) : W p l e (RM 4 h0) s m args below meth c H locs cells slots (MQT below g (qI K) E args s h0) (F0 m 61 ls []) := by
  have hx := X.hx
  have hb := X.hb
  unfold w_X8_mosts_J61 at hw
  refine lv_iload_n hx hb dX8_mosts_61 rfl (lv_at hl 2 rfl) ?_
  refine lv_istore_n (i := 2) (lv' := [(2, .int v3), (0, va_rf v0), (1, .int v1), (3, .int v3)]) hx hb dX8_mosts_62 rfl hl (by decide) rfl (fun ls hl => ?_)
  refine r_aload_n X dX8_mosts_63 rfl (lv_at hl 1 rfl) ?_
  refine r_aload_n X dX8_mosts_64 rfl (lv_at hl 1 rfl) ?_
  refine r_aload_n X dX8_mosts_65 rfl (lv_at hl 1 rfl) ?_
  refine r_gR X hR fk_X8_21 dX8_mosts_66 hw (fun x7 hw => ?_)
  refine lv_iload_n hx hb dX8_mosts_69 rfl (lv_at hl 2 rfl) ?_
  refine r_callI X hR (c_V (ci := 8) (q := (RX8, TX8, 32)) X hR hl.1 (c_X8_landsIn l g v0 x7 v1) (lw_V q1961 q1963 qs82 q125 q1964) rfl rfl mh_X8_landsIn rfl (by decide) (by decide) rfl (cat4 (Nat.le_of_ble_eq_true rfl)) dX8_mosts_70 hw) (fun x8 h H locs cells slots hR hw => ?_)
  refine r_put X hR fp_X8_465 (Or.inl fn_X8_465) (nf_int _) dX8_mosts_73 hw (fun H locs h hR hw => ?_)
  exact t_X8_mosts_J76 X k4 hw hR (lv_sub hl [1, 2, 0, 3] rfl)
theorem t_X8_mosts_L4 {p : Program} {l : Launch} {e : Env} {s : State} {m : MethodId} {args : Array Value} {below : List Frame} {meth : Method} {c : Code} {g : GT} {h0 : AH} {v0 : Option Nat} {v1 : Int32} {K : Int32 → AH → Prop} {E : Nat → AH → Prop} (X : Cx g h0 p s m args meth c RX8 cX8_mosts 4 (Option.some Jvm.ClassFile.FieldType.int))  : ∀ (n : Nat) {v2 : Int32} {v3 : Int32} {h : AH} {H : Heap} {locs : List Loc} {cells slots : Nat} {ls : Array Slot}, LpN2 (w_X8_mosts_L4 g v0 v1 K E) n v2 v3 h → HS g s h H locs → lv_has ls 4 [(0, va_rf v0), (1, .int v1), (2, .int v2), (3, .int v3)] → W p l e (RM 4 h0) s m args below meth c H locs cells slots (MQT below g (qI K) E args s h0) (F0 m 4 ls []) := by
  have hx := X.hx
  have hb := X.hb
  intro n
  induction n with
  | zero =>
    intro v2 v3 h H locs cells slots ls hw
    exact hw.elim
  | succ n k4 =>
    intro v2 v3 h H locs cells slots ls hw hR hl
    have hw : w_X8_mosts_L4 g v0 v1 K E (LpN2 (w_X8_mosts_L4 g v0 v1 K E) n) v2 v3 h := hw
    unfold w_X8_mosts_L4 at hw
    refine lv_iload_n hx hb dX8_mosts_4 rfl (lv_at hl 3 rfl) ?_
    refine r_aload_n X dX8_mosts_5 rfl (lv_at hl 0 rfl) ?_
    refine r_gR X hR fk_X8_316 dX8_mosts_6 hw (fun x1 hw => ?_)
    refine r_gI X hR fk_X8_194 dX8_mosts_9 hw (fun x2 hw => ?_)
    refine lv_icmp_ge (tgt := 82) hx hb dX8_mosts_12 (by decide) (fun c3 => ?_) (fun c3 => ?_)
    · have hw := hw.1 c3
      refine lv_iload_n hx hb dX8_mosts_82 rfl (lv_at hl 2 rfl) ?_
      exact r_iret X hR dX8_mosts_83 hw
    · have hw := hw.2 c3
      refine r_aload_n X dX8_mosts_15 rfl (lv_at hl 0 rfl) ?_
      refine r_callV X hR (c_V (ci := 8) (q := (RX8, TX8, 32)) X hR hl.1 (c_X8_tries l g v0) (lw_V q2075 q2077 qs93 q125 q2078) rfl rfl mh_X8_tries rfl (by decide) (by decide) rfl (cat4 (Nat.le_of_ble_eq_true rfl)) dX8_mosts_16 hw) (fun _ h H locs cells slots hR hw => ?_)
      refine r_aload_n X dX8_mosts_19 rfl (lv_at hl 0 rfl) ?_
      refine r_gR X hR fk_X8_21 dX8_mosts_20 hw (fun x4 hw => ?_)
      refine lv_iconst (v := 0) hx hb dX8_mosts_23 (by decide) ?_
      refine lv_iload_n hx hb dX8_mosts_24 rfl (lv_at hl 3 rfl) ?_
      refine lv_iadd hx hb dX8_mosts_25 ?_
      refine lv_iload_n hx hb dX8_mosts_26 rfl (lv_at hl 1 rfl) ?_
      refine r_iast X hR dX8_mosts_27 hw (fun H locs h hR hw => ?_)
      refine r_aload_n X dX8_mosts_28 rfl (lv_at hl 0 rfl) ?_
      refine r_aload_n X dX8_mosts_29 rfl (lv_at hl 0 rfl) ?_
      refine r_gR X hR fk_X8_21 dX8_mosts_30 hw (fun x5 hw => ?_)
      refine lv_iconst (v := 1) hx hb dX8_mosts_33 (by decide) ?_
      refine r_callV X hR (c_V (ci := 8) (q := (RX8, TX8, 32)) X hR hl.1 (c_X8_ends l g v0 x5 1) (lw_V q2008 q2010 qs88 q125 q2011) rfl rfl mh_X8_ends rfl (by decide) (by decide) rfl (cat4 (Nat.le_of_ble_eq_true rfl)) dX8_mosts_34 hw) (fun _ h H locs cells slots hR hw => ?_)
      refine lv_iload_n hx hb dX8_mosts_37 rfl (lv_at hl 2 rfl) ?_
      refine lv_iconst (v := (-1)) hx hb dX8_mosts_38 (by decide) ?_
      refine lv_icmp_eq (tgt := 61) hx hb dX8_mosts_39 (by decide) (fun c6 => ?_) (fun c6 => ?_)
      · have hw := hw.1 c6
        exact t_X8_mosts_J61 X k4 hw hR (lv_sub hl [0, 1, 3] rfl)
      · have hw := hw.2 c6
        refine r_aload_n X dX8_mosts_42 rfl (lv_at hl 0 rfl) ?_
        refine r_aload_n X dX8_mosts_43 rfl (lv_at hl 0 rfl) ?_
        refine r_gR X hR fk_X8_21 dX8_mosts_44 hw (fun x10 hw => ?_)
        refine lv_iload_n hx hb dX8_mosts_47 rfl (lv_at hl 1 rfl) ?_
        refine r_callI X hR (c_V (ci := 8) (q := (RX8, TX8, 32)) X hR hl.1 (c_X8_landsIn l g v0 x10 v1) (lw_V q1961 q1963 qs82 q125 q1964) rfl rfl mh_X8_landsIn rfl (by decide) (by decide) rfl (cat4 (Nat.le_of_ble_eq_true rfl)) dX8_mosts_48 hw) (fun x11 h H locs cells slots hR hw => ?_)
        refine r_aload_n X dX8_mosts_51 rfl (lv_at hl 0 rfl) ?_
        refine r_gI X hR fk_X8_465 dX8_mosts_52 hw (fun x12 hw => ?_)
        refine lv_icmp_gt (tgt := 61) hx hb dX8_mosts_55 (by decide) (fun c13 => ?_) (fun c13 => ?_)
        · have hw := hw.1 c13
          exact t_X8_mosts_J61 X k4 hw hR (lv_sub hl [0, 1, 3] rfl)
        · have hw := hw.2 c13
          refine lv_goto (tgt := 76) hx hb dX8_mosts_58 (by decide) ?_
          exact t_X8_mosts_J76 X k4 hw hR (lv_sub hl [0, 1, 2, 3] rfl)
theorem c_X8_mosts (l : Launch) (g : GT) (v0 : Option Nat) (v1 : Int32) : CT qI l yX8_mosts (ws_ yX8_mosts cX8_mosts 4 (Option.some Jvm.ClassFile.FieldType.int)) 4 g [va_rf v0, .int v1] (fun K E h => w_X8_mosts g v0 v1 K E h) := by
  refine CT_of (lv := [(0, va_rf v0), (1, .int v1)]) (by decide +kernel) (by simp [lg_sl, cat_rf, cat_int, cat_long]) (by simp [lv_args, cat_rf, cat_int, cat_long]) (fun h0 K E p e s m args below meth c H locs cells slots ls X hxt hmn hw hR hl => ?_)
  have hx := X.hx
  have hb := X.hb
  unfold w_X8_mosts at hw
  refine lv_iconst (v := (-1)) hx hb dX8_mosts_0 (by decide) ?_
  refine lv_istore_n (i := 2) (lv' := [(2, .int (-1)), (0, va_rf v0), (1, .int v1)]) hx hb dX8_mosts_1 rfl hl (by decide) rfl (fun ls hl => ?_)
  refine lv_iconst (v := 0) hx hb dX8_mosts_2 (by decide) ?_
  refine lv_istore_n (i := 3) (lv' := [(3, .int 0), (2, .int (-1)), (0, va_rf v0), (1, .int v1)]) hx hb dX8_mosts_3 rfl hl (by decide) rfl (fun ls hl => ?_)
  obtain ⟨n, hw⟩ := hw
  exact t_X8_mosts_L4 X  n hw hR (lv_sub hl [2, 3, 1, 0] rfl)
theorem c_X8_most (l : Launch) (g : GT) (v0 : Option Nat) (v1 : Int32) : CT qI l yX8_most (ws_ yX8_most cX8_most 2 (Option.some Jvm.ClassFile.FieldType.int)) 5 g [va_rf v0, .int v1] (fun K E h => w_X8_most g v0 v1 K E h) := by
  refine CT_of (lv := [(0, va_rf v0), (1, .int v1)]) (by decide +kernel) (by simp [lg_sl, cat_rf, cat_int, cat_long]) (by simp [lv_args, cat_rf, cat_int, cat_long]) (fun h0 K E p e s m args below meth c H locs cells slots ls X hxt hmn hw hR hl => ?_)
  have hx := X.hx
  have hb := X.hb
  unfold w_X8_most at hw
  refine r_aload_n X dX8_most_0 rfl (lv_at hl 0 rfl) ?_
  refine lv_iconst (v := 0) hx hb dX8_most_1 (by decide) ?_
  refine r_put X hR fp_X8_45 (Or.inl fn_X8_45) (nf_int _) dX8_most_2 hw (fun H locs h hR hw => ?_)
  refine r_aload_n X dX8_most_5 rfl (lv_at hl 0 rfl) ?_
  refine lv_iload_n hx hb dX8_most_6 rfl (lv_at hl 1 rfl) ?_
  refine r_callI X hR (c_V (ci := 8) (q := (RX8, TX8, 32)) X hR hl.1 (c_X8_isPerson l g v0 v1) (lw_V q1953 q1955 qs80 q125 q1956) rfl rfl mh_X8_isPerson rfl (by decide) (by decide) rfl (cat4 (Nat.le_of_ble_eq_true rfl)) dX8_most_7 hw) (fun x1 h H locs cells slots hR hw => ?_)
  refine lv_if_eq (tgt := 25) hx hb dX8_most_10 (by decide) (fun c2 => ?_) (fun c2 => ?_)
  · have hw := hw.1 c2
    refine r_aload_n X dX8_most_25 rfl (lv_at hl 0 rfl) ?_
    refine lv_iconst (v := 1) hx hb dX8_most_26 (by decide) ?_
    refine r_callI X hR (c_V (ci := 8) (q := (RX8, TX8, 32)) X hR hl.1 (c_X8_refused l g v0 1) (lw_V q1657 q1659 qs50 q125 q1660) rfl rfl mh_X8_refused rfl (by decide) (by decide) rfl (cat4 (Nat.le_of_ble_eq_true rfl)) dX8_most_27 hw) (fun x3 h H locs cells slots hR hw => ?_)
    exact r_iret X hR dX8_most_30 hw
  · have hw := hw.2 c2
    refine r_aload_n X dX8_most_13 rfl (lv_at hl 0 rfl) ?_
    refine r_aload_n X dX8_most_14 rfl (lv_at hl 0 rfl) ?_
    refine lv_iload_n hx hb dX8_most_15 rfl (lv_at hl 1 rfl) ?_
    refine r_callI X hR (c_V (ci := 8) (q := (RX8, TX8, 32)) X hR hl.1 (c_X8_mosts l g v0 v1) (lw_V q2211 q2213 qs108 q125 q2214) rfl rfl mh_X8_mosts rfl (by decide) (by decide) rfl (cat4 (Nat.le_of_ble_eq_true rfl)) dX8_most_16 hw) (fun x4 h H locs cells slots hR hw => ?_)
    refine r_callI X hR (c_V (ci := 8) (q := (RX8, TX8, 32)) X hR hl.1 (c_X8_good l g v0 x4) (lw_V q1929 q1931 qs78 q125 q1932) rfl rfl mh_X8_good rfl (by decide) (by decide) rfl (cat4 (Nat.le_of_ble_eq_true rfl)) dX8_most_19 hw) (fun x5 h H locs cells slots hR hw => ?_)
    refine lv_goto (tgt := 30) hx hb dX8_most_22 (by decide) ?_
    exact r_iret X hR dX8_most_30 hw
theorem c_X8_mostLands (l : Launch) (g : GT) (v0 : Option Nat) (v1 : Int32) : CT qI l yX8_mostLands (ws_ yX8_mostLands cX8_mostLands 2 (Option.some Jvm.ClassFile.FieldType.int)) 5 g [va_rf v0, .int v1] (fun K E h => w_X8_mostLands g v0 v1 K E h) := by
  refine CT_of (lv := [(0, va_rf v0), (1, .int v1)]) (by decide +kernel) (by simp [lg_sl, cat_rf, cat_int, cat_long]) (by simp [lv_args, cat_rf, cat_int, cat_long]) (fun h0 K E p e s m args below meth c H locs cells slots ls X hxt hmn hw hR hl => ?_)
  have hx := X.hx
  have hb := X.hb
  unfold w_X8_mostLands at hw
  refine r_aload_n X dX8_mostLands_0 rfl (lv_at hl 0 rfl) ?_
  refine lv_iconst (v := 0) hx hb dX8_mostLands_1 (by decide) ?_
  refine r_put X hR fp_X8_45 (Or.inl fn_X8_45) (nf_int _) dX8_mostLands_2 hw (fun H locs h hR hw => ?_)
  refine r_aload_n X dX8_mostLands_5 rfl (lv_at hl 0 rfl) ?_
  refine lv_iload_n hx hb dX8_mostLands_6 rfl (lv_at hl 1 rfl) ?_
  refine r_callI X hR (c_V (ci := 8) (q := (RX8, TX8, 32)) X hR hl.1 (c_X8_isPerson l g v0 v1) (lw_V q1953 q1955 qs80 q125 q1956) rfl rfl mh_X8_isPerson rfl (by decide) (by decide) rfl (cat4 (Nat.le_of_ble_eq_true rfl)) dX8_mostLands_7 hw) (fun x1 h H locs cells slots hR hw => ?_)
  refine lv_if_ne (tgt := 19) hx hb dX8_mostLands_10 (by decide) (fun c2 => ?_) (fun c2 => ?_)
  · have hw := hw.1 c2
    refine r_aload_n X dX8_mostLands_19 rfl (lv_at hl 0 rfl) ?_
    refine lv_iload_n hx hb dX8_mostLands_20 rfl (lv_at hl 1 rfl) ?_
    refine r_callI X hR (c_V (ci := 8) (q := (RX8, TX8, 32)) X hR hl.1 (c_X8_mosts l g v0 v1) (lw_V q2211 q2213 qs108 q125 q2214) rfl rfl mh_X8_mosts rfl (by decide) (by decide) rfl (cat4 (Nat.le_of_ble_eq_true rfl)) dX8_mostLands_21 hw) (fun x3 h H locs cells slots hR hw => ?_)
    refine lv_pop hx hb dX8_mostLands_24 rfl ?_
    refine r_aload_n X dX8_mostLands_25 rfl (lv_at hl 0 rfl) ?_
    refine r_aload_n X dX8_mostLands_26 rfl (lv_at hl 0 rfl) ?_
    refine r_gI X hR fk_X8_465 dX8_mostLands_27 hw (fun x4 hw => ?_)
    refine r_callI X hR (c_V (ci := 8) (q := (RX8, TX8, 32)) X hR hl.1 (c_X8_good l g v0 x4) (lw_V q1929 q1931 qs78 q125 q1932) rfl rfl mh_X8_good rfl (by decide) (by decide) rfl (cat4 (Nat.le_of_ble_eq_true rfl)) dX8_mostLands_30 hw) (fun x5 h H locs cells slots hR hw => ?_)
    exact r_iret X hR dX8_mostLands_33 hw
  · have hw := hw.2 c2
    refine r_aload_n X dX8_mostLands_13 rfl (lv_at hl 0 rfl) ?_
    refine lv_iconst (v := 1) hx hb dX8_mostLands_14 (by decide) ?_
    refine r_callI X hR (c_V (ci := 8) (q := (RX8, TX8, 32)) X hR hl.1 (c_X8_refused l g v0 1) (lw_V q1657 q1659 qs50 q125 q1660) rfl rfl mh_X8_refused rfl (by decide) (by decide) rfl (cat4 (Nat.le_of_ble_eq_true rfl)) dX8_mostLands_15 hw) (fun x6 h H locs cells slots hR hw => ?_)
    exact r_iret X hR dX8_mostLands_18 hw
theorem c_X8_draw (l : Launch) (g : GT) (v0 : Option Nat) (v1 : Int32) : CT qI l yX8_draw (ws_ yX8_draw cX8_draw 2 (Option.some Jvm.ClassFile.FieldType.int)) 1 g [va_rf v0, .int v1] (fun K E h => w_X8_draw g v0 v1 K E h) := by
  refine CT_of (lv := [(0, va_rf v0), (1, .int v1)]) (by decide +kernel) (by simp [lg_sl, cat_rf, cat_int, cat_long]) (by simp [lv_args, cat_rf, cat_int, cat_long]) (fun h0 K E p e s m args below meth c H locs cells slots ls X hxt hmn hw hR hl => ?_)
  have hx := X.hx
  have hb := X.hb
  unfold w_X8_draw at hw
  refine r_aload_n X dX8_draw_0 rfl (lv_at hl 0 rfl) ?_
  refine lv_ldc2 hx hb X.hown (X.hts _ q2232) dX8_draw_1 ?_
  refine r_aload_n X dX8_draw_4 rfl (lv_at hl 0 rfl) ?_
  refine r_gI X hR fk_X8_473 dX8_draw_5 hw (fun x1 hw => ?_)
  refine lv_i2l hx hb dX8_draw_8 rfl ?_
  refine lv_lmul hx hb dX8_draw_9 ?_
  refine lv_ldc2 hx hb X.hown (X.hts _ q2233) dX8_draw_10 ?_
  refine lv_ladd hx hb dX8_draw_13 ?_
  refine lv_ldc2 hx hb X.hown (X.hts _ q2234) dX8_draw_14 ?_
  refine lv_lrem hx hb dX8_draw_17 (by decide) ?_
  refine lv_l2i hx hb dX8_draw_18 rfl ?_
  refine r_put X hR fp_X8_473 (Or.inl fn_X8_473) (nf_int _) dX8_draw_19 hw (fun H locs h hR hw => ?_)
  refine r_aload_n X dX8_draw_22 rfl (lv_at hl 0 rfl) ?_
  refine r_gI X hR fk_X8_473 dX8_draw_23 hw (fun x2 hw => ?_)
  refine lv_iload_n hx hb dX8_draw_26 rfl (lv_at hl 1 rfl) ?_
  obtain ⟨z3, hw⟩ := hw
  refine lv_irem hx hb dX8_draw_27 z3 ?_
  exact r_iret X hR dX8_draw_28 hw
theorem t_X8_centuries_J106 {p : Program} {l : Launch} {e : Env} {s : State} {m : MethodId} {args : Array Value} {below : List Frame} {meth : Method} {c : Code} {g : GT} {h0 : AH} {v0 : Option Nat} {v3 : Int32} {v4 : Int32} {s0 : Int32} {s1 : Option Nat} {s2 : Option Nat} {K : Int32 → AH → Prop} {E : Nat → AH → Prop} {L41 : Int32 → AH → Prop} {h : AH} {H : Heap} {locs : List Loc} {cells slots : Nat} {ls : Array Slot} (X : Cx g h0 p s m args meth c RX8 cX8_centuries 6 (Option.some Jvm.ClassFile.FieldType.int)) (k41 : ∀ {v4' : Int32} {h : AH} {H : Heap} {locs : List Loc} {cells slots : Nat} {ls : Array Slot}, L41 v4' h → HS g s h H locs → lv_has ls 6 [(0, va_rf v0), (3, .int v3), (4, .int (v4'))] → W p l e (RM 4 h0) s m args below meth c H locs cells slots (MQT below g (qI K) E args s h0) (F0 m 41 ls [])) (hw : w_X8_centuries_J106 g v0 v3 v4 s0 s1 s2 K E L41 h) (hR : HS g s h H locs) (hl : lv_has ls 6 [(0, va_rf v0), (3, .int v3), (4, .int v4)]) : W p l e (RM 4 h0) s m args below meth c H locs cells slots (MQT below g (qI K) E args s h0) (F0 m 106 ls [.int s0, va_rf s1, va_rf s2]) := by
  have hx := X.hx
  have hb := X.hb
  unfold w_X8_centuries_J106 at hw
  refine r_callV X hR (c_V (ci := 8) (q := (RX8, TX8, 32)) X hR hl.1 (c_X8_ends l g s2 s1 s0) (lw_V q2008 q2010 qs88 q125 q2011) rfl rfl mh_X8_ends rfl (by decide) (by decide) rfl (cat4 (Nat.le_of_ble_eq_true rfl)) dX8_centuries_106 hw) (fun _ h H locs cells slots hR hw => ?_)
  refine r_iinc X (k := 2) (v := (v4 + 1)) (lv' := fun x19 => [(4, .int x19), (0, va_rf v0), (3, .int v3)]) dX8_centuries_109 hl rfl rfl (by decide) hw (fun _ => rfl) (fun x19 hw ls hl => ?_)
  refine lv_goto (tgt := 41) hx hb dX8_centuries_112 (by decide) ?_
  exact k41 hw hR (lv_sub hl [1, 2, 0] rfl)
theorem t_X8_centuries_L41 {p : Program} {l : Launch} {e : Env} {s : State} {m : MethodId} {args : Array Value} {below : List Frame} {meth : Method} {c : Code} {g : GT} {h0 : AH} {v0 : Option Nat} {v3 : Int32} {K : Int32 → AH → Prop} {E : Nat → AH → Prop} (X : Cx g h0 p s m args meth c RX8 cX8_centuries 6 (Option.some Jvm.ClassFile.FieldType.int))  : ∀ (n : Nat) {v4 : Int32} {h : AH} {H : Heap} {locs : List Loc} {cells slots : Nat} {ls : Array Slot}, LpN1 (w_X8_centuries_L41 g v0 v3 K E) n v4 h → HS g s h H locs → lv_has ls 6 [(0, va_rf v0), (3, .int v3), (4, .int v4)] → W p l e (RM 4 h0) s m args below meth c H locs cells slots (MQT below g (qI K) E args s h0) (F0 m 41 ls []) := by
  have hx := X.hx
  have hb := X.hb
  intro n
  induction n with
  | zero =>
    intro v4 h H locs cells slots ls hw
    exact hw.elim
  | succ n k41 =>
    intro v4 h H locs cells slots ls hw hR hl
    have hw : w_X8_centuries_L41 g v0 v3 K E (LpN1 (w_X8_centuries_L41 g v0 v3 K E) n) v4 h := hw
    unfold w_X8_centuries_L41 at hw
    refine lv_iload hx hb dX8_centuries_41 (lv_at hl 2 rfl) ?_
    refine lv_iload_n hx hb dX8_centuries_43 rfl (lv_at hl 1 rfl) ?_
    refine lv_icmp_ge (tgt := 115) hx hb dX8_centuries_44 (by decide) (fun c6 => ?_) (fun c6 => ?_)
    · have hw := hw.1 c6
      refine lv_iconst (v := 0) hx hb dX8_centuries_115 (by decide) ?_
      exact r_iret X hR dX8_centuries_116 hw
    · have hw := hw.2 c6
      refine r_aload_n X dX8_centuries_47 rfl (lv_at hl 0 rfl) ?_
      refine r_aload_n X dX8_centuries_48 rfl (lv_at hl 0 rfl) ?_
      refine r_gR X hR fk_X8_316 dX8_centuries_49 hw (fun x7 hw => ?_)
      refine r_gI X hR fk_X8_194 dX8_centuries_52 hw (fun x8 hw => ?_)
      refine r_callI X hR (c_V (ci := 8) (q := (RX8, TX8, 32)) X hR hl.1 (c_X8_draw l g v0 x8) (lw_V q2228 q2230 qs110 q125 q2231) rfl rfl mh_X8_draw rfl (by decide) (by decide) rfl (cat4 (Nat.le_of_ble_eq_true rfl)) dX8_centuries_55 hw) (fun x9 h H locs cells slots hR hw => ?_)
      refine lv_istore (i := 5) (lv' := [(5, .int x9), (0, va_rf v0), (3, .int v3), (4, .int v4)]) hx hb dX8_centuries_58 hl (by decide) rfl (fun ls hl => ?_)
      refine r_aload_n X dX8_centuries_60 rfl (lv_at hl 1 rfl) ?_
      refine r_gR X hR fk_X8_21 dX8_centuries_61 hw (fun x10 hw => ?_)
      refine lv_iconst (v := 0) hx hb dX8_centuries_64 (by decide) ?_
      refine lv_iload hx hb dX8_centuries_65 (lv_at hl 0 rfl) ?_
      refine lv_iadd hx hb dX8_centuries_67 ?_
      refine r_aload_n X dX8_centuries_68 rfl (lv_at hl 1 rfl) ?_
      refine r_aload_n X dX8_centuries_69 rfl (lv_at hl 1 rfl) ?_
      refine r_gR X hR fk_X8_316 dX8_centuries_70 hw (fun x11 hw => ?_)
      refine r_gI X hR fk_X8_191 dX8_centuries_73 hw (fun x12 hw => ?_)
      refine r_callI X hR (c_V (ci := 8) (q := (RX8, TX8, 32)) X hR hl.1 (c_X8_draw l g v0 x12) (lw_V q2228 q2230 qs110 q125 q2231) rfl rfl mh_X8_draw rfl (by decide) (by decide) rfl (cat4 (Nat.le_of_ble_eq_true rfl)) dX8_centuries_76 hw) (fun x13 h H locs cells slots hR hw => ?_)
      refine r_iast X hR dX8_centuries_79 hw (fun H locs h hR hw => ?_)
      refine r_aload_n X dX8_centuries_80 rfl (lv_at hl 1 rfl) ?_
      refine r_aload_n X dX8_centuries_81 rfl (lv_at hl 1 rfl) ?_
      refine r_gR X hR fk_X8_21 dX8_centuries_82 hw (fun x14 hw => ?_)
      refine r_aload_n X dX8_centuries_85 rfl (lv_at hl 1 rfl) ?_
      refine lv_bipush (v := 100) hx hb dX8_centuries_86 (by decide) ?_
      refine r_callI X hR (c_V (ci := 8) (q := (RX8, TX8, 32)) X hR hl.1 (c_X8_draw l g v0 100) (lw_V q2228 q2230 qs110 q125 q2231) rfl rfl mh_X8_draw rfl (by decide) (by decide) rfl (cat4 (Nat.le_of_ble_eq_true rfl)) dX8_centuries_88 hw) (fun x15 h H locs cells slots hR hw => ?_)
      refine r_aload_n X dX8_centuries_91 rfl (lv_at hl 1 rfl) ?_
      refine r_gR X hR fk_X8_316 dX8_centuries_92 hw (fun x16 hw => ?_)
      refine r_gI X hR fk_X8_232 dX8_centuries_95 hw (fun x17 hw => ?_)
      refine lv_icmp_ge (tgt := 105) hx hb dX8_centuries_98 (by decide) (fun c18 => ?_) (fun c18 => ?_)
      · have hw := hw.1 c18
        refine lv_iconst (v := 0) hx hb dX8_centuries_105 (by decide) ?_
        exact t_X8_centuries_J106 X k41 hw hR (lv_sub hl [1, 2, 3] rfl)
      · have hw := hw.2 c18
        refine lv_iconst (v := 1) hx hb dX8_centuries_101 (by decide) ?_
        refine lv_goto (tgt := 106) hx hb dX8_centuries_102 (by decide) ?_
        exact t_X8_centuries_J106 X k41 hw hR (lv_sub hl [1, 2, 3] rfl)
theorem c_X8_centuries (l : Launch) (g : GT) (v0 : Option Nat) (v1 : Int32) (v2 : Int32) (v3 : Int32) : CT qI l yX8_centuries (ws_ yX8_centuries cX8_centuries 6 (Option.some Jvm.ClassFile.FieldType.int)) 4 g [va_rf v0, .int v1, .int v2, .int v3] (fun K E h => w_X8_centuries g v0 v1 v2 v3 K E h) := by
  refine CT_of (lv := [(0, va_rf v0), (1, .int v1), (2, .int v2), (3, .int v3)]) (by decide +kernel) (by simp [lg_sl, cat_rf, cat_int, cat_long]) (by simp [lv_args, cat_rf, cat_int, cat_long]) (fun h0 K E p e s m args below meth c H locs cells slots ls X hxt hmn hw hR hl => ?_)
  have hx := X.hx
  have hb := X.hb
  unfold w_X8_centuries at hw
  refine lv_iload_n hx hb dX8_centuries_0 rfl (lv_at hl 1 rfl) ?_
  refine lv_if_ne (tgt := 6) hx hb dX8_centuries_1 (by decide) (fun c1 => ?_) (fun c1 => ?_)
  · have hw := hw.1 c1
    refine lv_iload_n hx hb dX8_centuries_6 rfl (lv_at hl 2 rfl) ?_
    refine lv_iconst (v := 0) hx hb dX8_centuries_7 (by decide) ?_
    refine lv_ldcw hx hb X.hown (X.hts _ q2227) dX8_centuries_8 ?_
    refine r_callI X hR (c_S X hR hl.1 (c_X8_in l g v2 0 65536) (lw_S q1834 q1835 q125 q1836) mh_X8_in rfl (by decide) (by decide) rfl (cat4 (Nat.le_of_ble_eq_true rfl)) dX8_centuries_11 hw) (fun x2 h H locs cells slots hR hw => ?_)
    refine lv_if_eq (tgt := 27) hx hb dX8_centuries_14 (by decide) (fun c3 => ?_) (fun c3 => ?_)
    · have hw := hw.1 c3
      refine lv_iconst (v := 2) hx hb dX8_centuries_27 (by decide) ?_
      exact r_iret X hR dX8_centuries_28 hw
    · have hw := hw.2 c3
      refine lv_iload_n hx hb dX8_centuries_17 rfl (lv_at hl 3 rfl) ?_
      refine lv_iconst (v := 0) hx hb dX8_centuries_18 (by decide) ?_
      refine lv_bipush (v := 60) hx hb dX8_centuries_19 (by decide) ?_
      refine r_callI X hR (c_S X hR hl.1 (c_X8_in l g v3 0 60) (lw_S q1834 q1835 q125 q1836) mh_X8_in rfl (by decide) (by decide) rfl (cat4 (Nat.le_of_ble_eq_true rfl)) dX8_centuries_21 hw) (fun x4 h H locs cells slots hR hw => ?_)
      refine lv_if_ne (tgt := 29) hx hb dX8_centuries_24 (by decide) (fun c5 => ?_) (fun c5 => ?_)
      · have hw := hw.1 c5
        refine r_aload_n X dX8_centuries_29 rfl (lv_at hl 0 rfl) ?_
        refine lv_iload_n hx hb dX8_centuries_30 rfl (lv_at hl 2 rfl) ?_
        refine r_put X hR fp_X8_473 (Or.inl fn_X8_473) (nf_int _) dX8_centuries_31 hw (fun H locs h hR hw => ?_)
        refine r_aload_n X dX8_centuries_34 rfl (lv_at hl 0 rfl) ?_
        refine r_callV X hR (c_V (ci := 8) (q := (RX8, TX8, 32)) X hR hl.1 (c_X8_tries l g v0) (lw_V q2075 q2077 qs93 q125 q2078) rfl rfl mh_X8_tries rfl (by decide) (by decide) rfl (cat4 (Nat.le_of_ble_eq_true rfl)) dX8_centuries_35 hw) (fun _ h H locs cells slots hR hw => ?_)
        refine lv_iconst (v := 0) hx hb dX8_centuries_38 (by decide) ?_
        refine lv_istore (i := 4) (lv' := [(4, .int 0), (0, va_rf v0), (1, .int v1), (2, .int v2), (3, .int v3)]) hx hb dX8_centuries_39 hl (by decide) rfl (fun ls hl => ?_)
        obtain ⟨n, hw⟩ := hw
        exact t_X8_centuries_L41 X  n hw hR (lv_sub hl [1, 4, 0] rfl)
      · have hw := hw.2 c5
        refine lv_iconst (v := 2) hx hb dX8_centuries_27 (by decide) ?_
        exact r_iret X hR dX8_centuries_28 hw
  · have hw := hw.2 c1
    refine lv_iconst (v := 1) hx hb dX8_centuries_4 (by decide) ?_
    exact r_iret X hR dX8_centuries_5 hw
theorem c_X8_century (l : Launch) (g : GT) (v0 : Option Nat) (v1 : Int32) (v2 : Int32) (v3 : Int32) : CT qI l yX8_century (ws_ yX8_century cX8_century 5 (Option.some Jvm.ClassFile.FieldType.int)) 5 g [va_rf v0, .int v1, .int v2, .int v3] (fun K E h => w_X8_century g v0 v1 v2 v3 K E h) := by
  refine CT_of (lv := [(0, va_rf v0), (1, .int v1), (2, .int v2), (3, .int v3)]) (by decide +kernel) (by simp [lg_sl, cat_rf, cat_int, cat_long]) (by simp [lv_args, cat_rf, cat_int, cat_long]) (fun h0 K E p e s m args below meth c H locs cells slots ls X hxt hmn hw hR hl => ?_)
  have hx := X.hx
  have hb := X.hb
  unfold w_X8_century at hw
  refine r_aload_n X dX8_century_0 rfl (lv_at hl 0 rfl) ?_
  refine lv_iconst (v := 0) hx hb dX8_century_1 (by decide) ?_
  refine r_put X hR fp_X8_45 (Or.inl fn_X8_45) (nf_int _) dX8_century_2 hw (fun H locs h hR hw => ?_)
  refine r_aload_n X dX8_century_5 rfl (lv_at hl 0 rfl) ?_
  refine r_aload_n X dX8_century_6 rfl (lv_at hl 0 rfl) ?_
  refine lv_iload_n hx hb dX8_century_7 rfl (lv_at hl 1 rfl) ?_
  refine r_callI X hR (c_V (ci := 8) (q := (RX8, TX8, 32)) X hR hl.1 (c_X8_isPerson l g v0 v1) (lw_V q1953 q1955 qs80 q125 q1956) rfl rfl mh_X8_isPerson rfl (by decide) (by decide) rfl (cat4 (Nat.le_of_ble_eq_true rfl)) dX8_century_8 hw) (fun x1 h H locs cells slots hR hw => ?_)
  refine lv_iload_n hx hb dX8_century_11 rfl (lv_at hl 2 rfl) ?_
  refine lv_iload_n hx hb dX8_century_12 rfl (lv_at hl 3 rfl) ?_
  refine r_callI X hR (c_V (ci := 8) (q := (RX8, TX8, 32)) X hR hl.1 (c_X8_centuries l g v0 x1 v2 v3) (lw_V q2223 q2225 qs109 q125 q2226) rfl rfl mh_X8_centuries rfl (by decide) (by decide) rfl (cat4 (Nat.le_of_ble_eq_true rfl)) dX8_century_13 hw) (fun x2 h H locs cells slots hR hw => ?_)
  refine lv_istore (i := 4) (lv' := [(4, .int x2), (0, va_rf v0), (1, .int v1), (2, .int v2), (3, .int v3)]) hx hb dX8_century_16 hl (by decide) rfl (fun ls hl => ?_)
  refine lv_iload hx hb dX8_century_18 (lv_at hl 0 rfl) ?_
  refine lv_if_le (tgt := 32) hx hb dX8_century_20 (by decide) (fun c3 => ?_) (fun c3 => ?_)
  · have hw := hw.1 c3
    refine r_aload_n X dX8_century_32 rfl (lv_at hl 1 rfl) ?_
    refine r_aload_n X dX8_century_33 rfl (lv_at hl 1 rfl) ?_
    refine r_aload_n X dX8_century_34 rfl (lv_at hl 1 rfl) ?_
    refine r_gR X hR fk_X8_21 dX8_century_35 hw (fun x4 hw => ?_)
    refine lv_iload_n hx hb dX8_century_38 rfl (lv_at hl 2 rfl) ?_
    refine r_callI X hR (c_V (ci := 8) (q := (RX8, TX8, 32)) X hR hl.1 (c_X8_landsIn l g v0 x4 v1) (lw_V q1961 q1963 qs82 q125 q1964) rfl rfl mh_X8_landsIn rfl (by decide) (by decide) rfl (cat4 (Nat.le_of_ble_eq_true rfl)) dX8_century_39 hw) (fun x5 h H locs cells slots hR hw => ?_)
    refine r_callI X hR (c_V (ci := 8) (q := (RX8, TX8, 32)) X hR hl.1 (c_X8_good l g v0 x5) (lw_V q1929 q1931 qs78 q125 q1932) rfl rfl mh_X8_good rfl (by decide) (by decide) rfl (cat4 (Nat.le_of_ble_eq_true rfl)) dX8_century_42 hw) (fun x6 h H locs cells slots hR hw => ?_)
    exact r_iret X hR dX8_century_45 hw
  · have hw := hw.2 c3
    refine r_aload_n X dX8_century_23 rfl (lv_at hl 1 rfl) ?_
    refine lv_iload hx hb dX8_century_24 (lv_at hl 0 rfl) ?_
    refine r_callI X hR (c_V (ci := 8) (q := (RX8, TX8, 32)) X hR hl.1 (c_X8_refused l g v0 x2) (lw_V q1657 q1659 qs50 q125 q1660) rfl rfl mh_X8_refused rfl (by decide) (by decide) rfl (cat4 (Nat.le_of_ble_eq_true rfl)) dX8_century_26 hw) (fun x7 h H locs cells slots hR hw => ?_)
    refine lv_goto (tgt := 45) hx hb dX8_century_29 (by decide) ?_
    exact r_iret X hR dX8_century_45 hw
theorem t_X8_untitled_J73 {p : Program} {l : Launch} {e : Env} {s : State} {m : MethodId} {args : Array Value} {below : List Frame} {meth : Method} {c : Code} {g : GT} {h0 : AH} {v0 : Option Nat} {v5 : Int32} {s0 : Int32} {s1 : Int32} {K : Int32 → AH → Prop} {E : Nat → AH → Prop} {L40 : Int32 → Int32 → AH → Prop} {h : AH} {H : Heap} {locs : List Loc} {cells slots : Nat} {ls : Array Slot} (X : Cx g h0 p s m args meth c RX8 cX8_untitled 6 (Option.some Jvm.ClassFile.FieldType.int)) (k40 : ∀ {v4' : Int32} {v5' : Int32} {h : AH} {H : Heap} {locs : List Loc} {cells slots : Nat} {ls : Array Slot}, L40 v4' v5' h → HS g s h H locs → lv_has ls 6 [(0, va_rf v0), (4, .int (v4')), (5, .int (v5'))] → W p l e (RM 5 h0) s m args below meth c H locs cells slots (MQT below g (qI K) E args s h0) (F0 m 40 ls [])) (hw : w_X8_untitled_J73 g v0 v5 s0 s1 K E L40 h) (hR : HS g s h H locs) (hl : lv_has ls 6 [(0, va_rf v0), (5, .int v5)]) : W p l e (RM 5 h0) s m args below meth c H locs cells slots (MQT below g (qI K) E args s h0) (F0 m 73 ls [.int s0, .int s1]) := by
  have hx := X.hx
  have hb := X.hb
  unfold w_X8_untitled_J73 at hw
  refine lv_iadd hx hb dX8_untitled_73 ?_
  refine r_nmI hw (fun x12 hw => ?_)
  refine lv_istore (i := 4) (lv' := [(4, .int x12), (0, va_rf v0), (5, .int v5)]) hx hb dX8_untitled_74 hl (by decide) rfl (fun ls hl => ?_)
  refine r_iinc X (k := 2) (v := (v5 + 1)) (lv' := fun x13 => [(5, .int x13), (4, .int x12), (0, va_rf v0)]) dX8_untitled_76 hl rfl rfl (by decide) hw (fun _ => rfl) (fun x13 hw ls hl => ?_)
  refine lv_goto (tgt := 40) hx hb dX8_untitled_79 (by decide) ?_
  exact k40 hw hR (lv_sub hl [2, 1, 0] rfl)
theorem t_X8_untitled_L40 {p : Program} {l : Launch} {e : Env} {s : State} {m : MethodId} {args : Array Value} {below : List Frame} {meth : Method} {c : Code} {g : GT} {h0 : AH} {v0 : Option Nat} {K : Int32 → AH → Prop} {E : Nat → AH → Prop} (X : Cx g h0 p s m args meth c RX8 cX8_untitled 6 (Option.some Jvm.ClassFile.FieldType.int))  : ∀ (n : Nat) {v4 : Int32} {v5 : Int32} {h : AH} {H : Heap} {locs : List Loc} {cells slots : Nat} {ls : Array Slot}, LpN2 (w_X8_untitled_L40 g v0 K E) n v4 v5 h → HS g s h H locs → lv_has ls 6 [(0, va_rf v0), (4, .int v4), (5, .int v5)] → W p l e (RM 5 h0) s m args below meth c H locs cells slots (MQT below g (qI K) E args s h0) (F0 m 40 ls []) := by
  have hx := X.hx
  have hb := X.hb
  intro n
  induction n with
  | zero =>
    intro v4 v5 h H locs cells slots ls hw
    exact hw.elim
  | succ n k40 =>
    intro v4 v5 h H locs cells slots ls hw hR hl
    have hw : w_X8_untitled_L40 g v0 K E (LpN2 (w_X8_untitled_L40 g v0 K E) n) v4 v5 h := hw
    unfold w_X8_untitled_L40 at hw
    refine lv_iload hx hb dX8_untitled_40 (lv_at hl 2 rfl) ?_
    refine r_aload_n X dX8_untitled_42 rfl (lv_at hl 0 rfl) ?_
    refine r_gR X hR fk_X8_316 dX8_untitled_43 hw (fun x5 hw => ?_)
    refine r_gI X hR fk_X8_194 dX8_untitled_46 hw (fun x6 hw => ?_)
    refine lv_icmp_ge (tgt := 82) hx hb dX8_untitled_49 (by decide) (fun c7 => ?_) (fun c7 => ?_)
    · have hw := hw.1 c7
      refine r_aload_n X dX8_untitled_82 rfl (lv_at hl 0 rfl) ?_
      refine lv_iload hx hb dX8_untitled_83 (lv_at hl 1 rfl) ?_
      refine r_callI X hR (c_V (ci := 8) (q := (RX8, TX8, 32)) X hR hl.1 (c_X8_good l g v0 v4) (lw_V q1929 q1931 qs78 q125 q1932) rfl rfl mh_X8_good rfl (by decide) (by decide) rfl (cat4 (Nat.le_of_ble_eq_true rfl)) dX8_untitled_85 hw) (fun x8 h H locs cells slots hR hw => ?_)
      exact r_iret X hR dX8_untitled_88 hw
    · have hw := hw.2 c7
      refine lv_iload hx hb dX8_untitled_52 (lv_at hl 1 rfl) ?_
      refine r_aload_n X dX8_untitled_54 rfl (lv_at hl 0 rfl) ?_
      refine r_gR X hR fk_X8_21 dX8_untitled_55 hw (fun x9 hw => ?_)
      refine lv_iconst (v := 5) hx hb dX8_untitled_58 (by decide) ?_
      refine lv_iload hx hb dX8_untitled_59 (lv_at hl 2 rfl) ?_
      refine lv_iadd hx hb dX8_untitled_61 ?_
      refine r_iald X hR dX8_untitled_62 hw (fun x10 hw => ?_)
      refine lv_bipush (v := (-2)) hx hb dX8_untitled_63 (by decide) ?_
      refine lv_icmp_ne (tgt := 72) hx hb dX8_untitled_65 (by decide) (fun c11 => ?_) (fun c11 => ?_)
      · have hw := hw.1 c11
        refine lv_iconst (v := 0) hx hb dX8_untitled_72 (by decide) ?_
        exact t_X8_untitled_J73 X k40 hw hR (lv_sub hl [0, 2] rfl)
      · have hw := hw.2 c11
        refine lv_iconst (v := 1) hx hb dX8_untitled_68 (by decide) ?_
        refine lv_goto (tgt := 73) hx hb dX8_untitled_69 (by decide) ?_
        exact t_X8_untitled_J73 X k40 hw hR (lv_sub hl [0, 2] rfl)
theorem t_X8_untitled_J18 {p : Program} {l : Launch} {e : Env} {s : State} {m : MethodId} {args : Array Value} {below : List Frame} {meth : Method} {c : Code} {g : GT} {h0 : AH} {v0 : Option Nat} {v1 : Int32} {v2 : Int32} {s0 : Int32} {s1 : Option Nat} {K : Int32 → AH → Prop} {E : Nat → AH → Prop} {h : AH} {H : Heap} {locs : List Loc} {cells slots : Nat} {ls : Array Slot} (X : Cx g h0 p s m args meth c RX8 cX8_untitled 6 (Option.some Jvm.ClassFile.FieldType.int))  (hw : w_X8_untitled_J18 g v0 v1 v2 s0 s1 K E h) (hR : HS g s h H locs) (hl : lv_has ls 6 [(0, va_rf v0), (1, .int v1), (2, .int v2)]) : W p l e (RM 5 h0) s m args below meth c H locs cells slots (MQT below g (qI K) E args s h0) (F0 m 18 ls [.int s0, va_rf s1]) := by
  have hx := X.hx
  have hb := X.hb
  unfold w_X8_untitled_J18 at hw
  refine lv_iload_n hx hb dX8_untitled_18 rfl (lv_at hl 1 rfl) ?_
  refine lv_iload_n hx hb dX8_untitled_19 rfl (lv_at hl 2 rfl) ?_
  refine r_callI X hR (c_V (ci := 8) (q := (RX8, TX8, 32)) X hR hl.1 (c_X8_centuries l g s1 s0 v1 v2) (lw_V q2223 q2225 qs109 q125 q2226) rfl rfl mh_X8_centuries rfl (by decide) (by decide) rfl (cat4 (Nat.le_of_ble_eq_true rfl)) dX8_untitled_20 hw) (fun x3 h H locs cells slots hR hw => ?_)
  refine lv_istore_n (i := 3) (lv' := [(3, .int x3), (0, va_rf v0), (1, .int v1), (2, .int v2)]) hx hb dX8_untitled_23 rfl hl (by decide) rfl (fun ls hl => ?_)
  refine lv_iload_n hx hb dX8_untitled_24 rfl (lv_at hl 0 rfl) ?_
  refine lv_if_le (tgt := 34) hx hb dX8_untitled_25 (by decide) (fun c4 => ?_) (fun c4 => ?_)
  · have hw := hw.1 c4
    refine lv_iconst (v := 0) hx hb dX8_untitled_34 (by decide) ?_
    refine lv_istore (i := 4) (lv' := [(4, .int 0), (3, .int x3), (0, va_rf v0), (1, .int v1), (2, .int v2)]) hx hb dX8_untitled_35 hl (by decide) rfl (fun ls hl => ?_)
    refine lv_iconst (v := 0) hx hb dX8_untitled_37 (by decide) ?_
    refine lv_istore (i := 5) (lv' := [(5, .int 0), (4, .int 0), (3, .int x3), (0, va_rf v0), (1, .int v1), (2, .int v2)]) hx hb dX8_untitled_38 hl (by decide) rfl (fun ls hl => ?_)
    obtain ⟨n, hw⟩ := hw
    exact t_X8_untitled_L40 X  n hw hR (lv_sub hl [3, 1, 0] rfl)
  · have hw := hw.2 c4
    refine r_aload_n X dX8_untitled_28 rfl (lv_at hl 1 rfl) ?_
    refine lv_iload_n hx hb dX8_untitled_29 rfl (lv_at hl 0 rfl) ?_
    refine r_callI X hR (c_V (ci := 8) (q := (RX8, TX8, 32)) X hR hl.1 (c_X8_refused l g v0 x3) (lw_V q1657 q1659 qs50 q125 q1660) rfl rfl mh_X8_refused rfl (by decide) (by decide) rfl (cat4 (Nat.le_of_ble_eq_true rfl)) dX8_untitled_30 hw) (fun x14 h H locs cells slots hR hw => ?_)
    exact r_iret X hR dX8_untitled_33 hw
theorem c_X8_untitled (l : Launch) (g : GT) (v0 : Option Nat) (v1 : Int32) (v2 : Int32) : CT qI l yX8_untitled (ws_ yX8_untitled cX8_untitled 6 (Option.some Jvm.ClassFile.FieldType.int)) 5 g [va_rf v0, .int v1, .int v2] (fun K E h => w_X8_untitled g v0 v1 v2 K E h) := by
  refine CT_of (lv := [(0, va_rf v0), (1, .int v1), (2, .int v2)]) (by decide +kernel) (by simp [lg_sl, cat_rf, cat_int, cat_long]) (by simp [lv_args, cat_rf, cat_int, cat_long]) (fun h0 K E p e s m args below meth c H locs cells slots ls X hxt hmn hw hR hl => ?_)
  have hx := X.hx
  have hb := X.hb
  unfold w_X8_untitled at hw
  refine r_aload_n X dX8_untitled_0 rfl (lv_at hl 0 rfl) ?_
  refine lv_iconst (v := 0) hx hb dX8_untitled_1 (by decide) ?_
  refine r_put X hR fp_X8_45 (Or.inl fn_X8_45) (nf_int _) dX8_untitled_2 hw (fun H locs h hR hw => ?_)
  refine r_aload_n X dX8_untitled_5 rfl (lv_at hl 0 rfl) ?_
  refine r_aload_n X dX8_untitled_6 rfl (lv_at hl 0 rfl) ?_
  refine r_gR X hR fk_X8_316 dX8_untitled_7 hw (fun x1 hw => ?_)
  refine r_ifnull (tgt := 17) X dX8_untitled_10 (by decide) (fun c2 => ?_) (fun c2 => ?_)
  · have hw := hw.1 c2
    refine lv_iconst (v := 0) hx hb dX8_untitled_17 (by decide) ?_
    exact t_X8_untitled_J18 X  hw hR (lv_sub hl [0, 1, 2] rfl)
  · have hw := hw.2 c2
    refine lv_iconst (v := 1) hx hb dX8_untitled_13 (by decide) ?_
    refine lv_goto (tgt := 18) hx hb dX8_untitled_14 (by decide) ?_
    exact t_X8_untitled_J18 X  hw hR (lv_sub hl [0, 1, 2] rfl)
theorem c_X8_denied (l : Launch) (g : GT) (v0 : Option Nat) (v1 : Int32) : CT qI l yX8_denied (ws_ yX8_denied cX8_denied 2 (Option.some Jvm.ClassFile.FieldType.boolean)) 2 g [va_rf v0, .int v1] (fun K E h => w_X8_denied g v0 v1 K E h) := by
  refine CT_of (lv := [(0, va_rf v0), (1, .int v1)]) (by decide +kernel) (by simp [lg_sl, cat_rf, cat_int, cat_long]) (by simp [lv_args, cat_rf, cat_int, cat_long]) (fun h0 K E p e s m args below meth c H locs cells slots ls X hxt hmn hw hR hl => ?_)
  have hx := X.hx
  have hb := X.hb
  unfold w_X8_denied at hw
  refine r_aload_n X dX8_denied_0 rfl (lv_at hl 0 rfl) ?_
  refine lv_iload_n hx hb dX8_denied_1 rfl (lv_at hl 1 rfl) ?_
  refine r_callI X hR (c_V (ci := 8) (q := (RX8, TX8, 32)) X hR hl.1 (c_X8_refused l g v0 v1) (lw_V q1657 q1659 qs50 q125 q1660) rfl rfl mh_X8_refused rfl (by decide) (by decide) rfl (cat4 (Nat.le_of_ble_eq_true rfl)) dX8_denied_2 hw) (fun x1 h H locs cells slots hR hw => ?_)
  refine lv_pop hx hb dX8_denied_5 rfl ?_
  refine lv_iconst (v := 0) hx hb dX8_denied_6 (by decide) ?_
  exact r_zret X hR dX8_denied_7 hw
theorem t_X8_remembers_L51 {p : Program} {l : Launch} {e : Env} {s : State} {m : MethodId} {args : Array Value} {below : List Frame} {meth : Method} {c : Code} {g : GT} {h0 : AH} {v0 : Option Nat} {K : Unit → AH → Prop} {E : Nat → AH → Prop} (X : Cx g h0 p s m args meth c RX8 cX8_remembers 2 none)  : ∀ (n : Nat) {v1 : Int32} {h : AH} {H : Heap} {locs : List Loc} {cells slots : Nat} {ls : Array Slot}, LpN1 (w_X8_remembers_L51 g v0 K E) n v1 h → HS g s h H locs → lv_has ls 2 [(0, va_rf v0), (1, .int v1)] → W p l e (RM 1 h0) s m args below meth c H locs cells slots (MQT below g (qV K) E args s h0) (F0 m 51 ls []) := by
  have hx := X.hx
  have hb := X.hb
  intro n
  induction n with
  | zero =>
    intro v1 h H locs cells slots ls hw
    exact hw.elim
  | succ n k51 =>
    intro v1 h H locs cells slots ls hw hR hl
    have hw : w_X8_remembers_L51 g v0 K E (LpN1 (w_X8_remembers_L51 g v0 K E) n) v1 h := hw
    unfold w_X8_remembers_L51 at hw
    refine lv_iload_n hx hb dX8_remembers_51 rfl (lv_at hl 1 rfl) ?_
    refine lv_bipush (v := 11) hx hb dX8_remembers_52 (by decide) ?_
    refine lv_icmp_ge (tgt := 83) hx hb dX8_remembers_54 (by decide) (fun c3 => ?_) (fun c3 => ?_)
    · have hw := hw.1 c3
      refine r_aload_n X dX8_remembers_83 rfl (lv_at hl 0 rfl) ?_
      refine lv_dup hx hb dX8_remembers_84 (cat_rf _) ?_
      refine r_gI X hR fk_X8_322 dX8_remembers_85 hw (fun x4 hw => ?_)
      refine lv_iconst (v := 1) hx hb dX8_remembers_88 (by decide) ?_
      refine lv_iadd hx hb dX8_remembers_89 ?_
      refine r_put X hR fp_X8_322 (Or.inl fn_X8_322) (nf_int _) dX8_remembers_90 hw (fun H locs h hR hw => ?_)
      exact r_vret X hR rfl dX8_remembers_93 hw
    · have hw := hw.2 c3
      refine r_aload_n X dX8_remembers_57 rfl (lv_at hl 0 rfl) ?_
      refine r_gR X hR fk_X8_24 dX8_remembers_58 hw (fun x5 hw => ?_)
      refine lv_bipush (v := 11) hx hb dX8_remembers_61 (by decide) ?_
      refine r_aload_n X dX8_remembers_63 rfl (lv_at hl 0 rfl) ?_
      refine r_gI X hR fk_X8_322 dX8_remembers_64 hw (fun x6 hw => ?_)
      refine lv_imul hx hb dX8_remembers_67 ?_
      refine lv_iload_n hx hb dX8_remembers_68 rfl (lv_at hl 1 rfl) ?_
      refine lv_iadd hx hb dX8_remembers_69 ?_
      refine r_aload_n X dX8_remembers_70 rfl (lv_at hl 0 rfl) ?_
      refine r_gR X hR fk_X8_17 dX8_remembers_71 hw (fun x7 hw => ?_)
      refine lv_iload_n hx hb dX8_remembers_74 rfl (lv_at hl 1 rfl) ?_
      refine r_iald X hR dX8_remembers_75 hw (fun x8 hw => ?_)
      refine r_iast X hR dX8_remembers_76 hw (fun H locs h hR hw => ?_)
      refine r_iinc X (k := 1) (v := (v1 + 1)) (lv' := fun x9 => [(1, .int x9), (0, va_rf v0)]) dX8_remembers_77 hl rfl rfl (by decide) hw (fun _ => by simp [cat_rf, cat_int, cat_long]) (fun x9 hw ls hl => ?_)
      refine lv_goto (tgt := 51) hx hb dX8_remembers_80 (by decide) ?_
      exact k51 hw hR (lv_sub hl [1, 0] rfl)
theorem t_X8_remembers_J49 {p : Program} {l : Launch} {e : Env} {s : State} {m : MethodId} {args : Array Value} {below : List Frame} {meth : Method} {c : Code} {g : GT} {h0 : AH} {v0 : Option Nat} {K : Unit → AH → Prop} {E : Nat → AH → Prop} {h : AH} {H : Heap} {locs : List Loc} {cells slots : Nat} {ls : Array Slot} (X : Cx g h0 p s m args meth c RX8 cX8_remembers 2 none)  (hw : w_X8_remembers_J49 g v0 K E h) (hR : HS g s h H locs) (hl : lv_has ls 2 [(0, va_rf v0)]) : W p l e (RM 1 h0) s m args below meth c H locs cells slots (MQT below g (qV K) E args s h0) (F0 m 49 ls []) := by
  have hx := X.hx
  have hb := X.hb
  unfold w_X8_remembers_J49 at hw
  refine lv_iconst (v := 0) hx hb dX8_remembers_49 (by decide) ?_
  refine lv_istore_n (i := 1) (lv' := [(1, .int 0), (0, va_rf v0)]) hx hb dX8_remembers_50 rfl hl (by decide) (by simp [cat_rf, cat_int, cat_long]) (fun ls hl => ?_)
  obtain ⟨n, hw⟩ := hw
  exact t_X8_remembers_L51 X  n hw hR (lv_sub hl [1, 0] rfl)
theorem t_X8_remembers_L11 {p : Program} {l : Launch} {e : Env} {s : State} {m : MethodId} {args : Array Value} {below : List Frame} {meth : Method} {c : Code} {g : GT} {h0 : AH} {v0 : Option Nat} {K : Unit → AH → Prop} {E : Nat → AH → Prop} (X : Cx g h0 p s m args meth c RX8 cX8_remembers 2 none)  : ∀ (n : Nat) {v1 : Int32} {h : AH} {H : Heap} {locs : List Loc} {cells slots : Nat} {ls : Array Slot}, LpN1 (w_X8_remembers_L11 g v0 K E) n v1 h → HS g s h H locs → lv_has ls 2 [(0, va_rf v0), (1, .int v1)] → W p l e (RM 1 h0) s m args below meth c H locs cells slots (MQT below g (qV K) E args s h0) (F0 m 11 ls []) := by
  have hx := X.hx
  have hb := X.hb
  intro n
  induction n with
  | zero =>
    intro v1 h H locs cells slots ls hw
    exact hw.elim
  | succ n k11 =>
    intro v1 h H locs cells slots ls hw hR hl
    have hw : w_X8_remembers_L11 g v0 K E (LpN1 (w_X8_remembers_L11 g v0 K E) n) v1 h := hw
    unfold w_X8_remembers_L11 at hw
    refine lv_iload_n hx hb dX8_remembers_11 rfl (lv_at hl 1 rfl) ?_
    refine lv_sipush (v := 165) hx hb dX8_remembers_12 (by decide) ?_
    refine lv_icmp_ge (tgt := 39) hx hb dX8_remembers_15 (by decide) (fun c10 => ?_) (fun c10 => ?_)
    · have hw := hw.1 c10
      refine r_aload_n X dX8_remembers_39 rfl (lv_at hl 0 rfl) ?_
      refine lv_dup hx hb dX8_remembers_40 (cat_rf _) ?_
      refine r_gI X hR fk_X8_322 dX8_remembers_41 hw (fun x11 hw => ?_)
      refine lv_iconst (v := 1) hx hb dX8_remembers_44 (by decide) ?_
      refine lv_isub hx hb dX8_remembers_45 ?_
      refine r_put X hR fp_X8_322 (Or.inl fn_X8_322) (nf_int _) dX8_remembers_46 hw (fun H locs h hR hw => ?_)
      exact t_X8_remembers_J49 X  hw hR (lv_sub hl [0] rfl)
    · have hw := hw.2 c10
      refine r_aload_n X dX8_remembers_18 rfl (lv_at hl 0 rfl) ?_
      refine r_gR X hR fk_X8_24 dX8_remembers_19 hw (fun x12 hw => ?_)
      refine lv_iload_n hx hb dX8_remembers_22 rfl (lv_at hl 1 rfl) ?_
      refine r_aload_n X dX8_remembers_23 rfl (lv_at hl 0 rfl) ?_
      refine r_gR X hR fk_X8_24 dX8_remembers_24 hw (fun x13 hw => ?_)
      refine lv_iload_n hx hb dX8_remembers_27 rfl (lv_at hl 1 rfl) ?_
      refine lv_bipush (v := 11) hx hb dX8_remembers_28 (by decide) ?_
      refine lv_iadd hx hb dX8_remembers_30 ?_
      refine r_iald X hR dX8_remembers_31 hw (fun x14 hw => ?_)
      refine r_iast X hR dX8_remembers_32 hw (fun H locs h hR hw => ?_)
      refine r_iinc X (k := 1) (v := (v1 + 1)) (lv' := fun x15 => [(1, .int x15), (0, va_rf v0)]) dX8_remembers_33 hl rfl rfl (by decide) hw (fun _ => by simp [cat_rf, cat_int, cat_long]) (fun x15 hw ls hl => ?_)
      refine lv_goto (tgt := 11) hx hb dX8_remembers_36 (by decide) ?_
      exact k11 hw hR (lv_sub hl [1, 0] rfl)
theorem c_X8_remembers (l : Launch) (g : GT) (v0 : Option Nat) : CT qV l yX8_remembers (ws_ yX8_remembers cX8_remembers 2 none) 1 g [va_rf v0] (fun K E h => w_X8_remembers g v0 K E h) := by
  refine CT_of (lv := [(0, va_rf v0)]) (by decide +kernel) (by simp [lg_sl, cat_rf, cat_int, cat_long]) (by simp [lv_args, cat_rf, cat_int, cat_long]) (fun h0 K E p e s m args below meth c H locs cells slots ls X hxt hmn hw hR hl => ?_)
  have hx := X.hx
  have hb := X.hb
  unfold w_X8_remembers at hw
  refine r_aload_n X dX8_remembers_0 rfl (lv_at hl 0 rfl) ?_
  refine r_gI X hR fk_X8_322 dX8_remembers_1 hw (fun x1 hw => ?_)
  refine lv_bipush (v := 16) hx hb dX8_remembers_4 (by decide) ?_
  refine lv_icmp_ne (tgt := 49) hx hb dX8_remembers_6 (by decide) (fun c2 => ?_) (fun c2 => ?_)
  · have hw := hw.1 c2
    exact t_X8_remembers_J49 X  hw hR (lv_sub hl [0] rfl)
  · have hw := hw.2 c2
    refine lv_iconst (v := 0) hx hb dX8_remembers_9 (by decide) ?_
    refine lv_istore_n (i := 1) (lv' := [(1, .int 0), (0, va_rf v0)]) hx hb dX8_remembers_10 rfl hl (by decide) (by simp [cat_rf, cat_int, cat_long]) (fun ls hl => ?_)
    obtain ⟨n, hw⟩ := hw
    exact t_X8_remembers_L11 X  n hw hR (lv_sub hl [1, 0] rfl)
theorem c_X8_granted (l : Launch) (g : GT) (v0 : Option Nat) : CT qI l yX8_granted (ws_ yX8_granted cX8_granted 1 (Option.some Jvm.ClassFile.FieldType.boolean)) 2 g [va_rf v0] (fun K E h => w_X8_granted g v0 K E h) := by
  refine CT_of (lv := [(0, va_rf v0)]) (by decide +kernel) (by simp [lg_sl, cat_rf, cat_int, cat_long]) (by simp [lv_args, cat_rf, cat_int, cat_long]) (fun h0 K E p e s m args below meth c H locs cells slots ls X hxt hmn hw hR hl => ?_)
  have hx := X.hx
  have hb := X.hb
  unfold w_X8_granted at hw
  refine r_aload_n X dX8_granted_0 rfl (lv_at hl 0 rfl) ?_
  refine lv_iconst (v := 0) hx hb dX8_granted_1 (by decide) ?_
  refine r_callI X hR (c_V (ci := 8) (q := (RX8, TX8, 32)) X hR hl.1 (c_X8_good l g v0 0) (lw_V q1929 q1931 qs78 q125 q1932) rfl rfl mh_X8_good rfl (by decide) (by decide) rfl (cat4 (Nat.le_of_ble_eq_true rfl)) dX8_granted_2 hw) (fun x1 h H locs cells slots hR hw => ?_)
  refine lv_pop hx hb dX8_granted_5 rfl ?_
  refine lv_iconst (v := 1) hx hb dX8_granted_6 (by decide) ?_
  exact r_zret X hR dX8_granted_7 hw
theorem t_X8_lend_J21 {p : Program} {l : Launch} {e : Env} {s : State} {m : MethodId} {args : Array Value} {below : List Frame} {meth : Method} {c : Code} {g : GT} {h0 : AH} {v0 : Option Nat} {K : Int32 → AH → Prop} {E : Nat → AH → Prop} {h : AH} {H : Heap} {locs : List Loc} {cells slots : Nat} {ls : Array Slot} (X : Cx g h0 p s m args meth c RX8 cX8_lend 3 (Option.some Jvm.ClassFile.FieldType.boolean))  (hw : w_X8_lend_J21 g v0 K E h) (hR : HS g s h H locs) (hl : lv_has ls 3 [(0, va_rf v0)]) : W p l e (RM 3 h0) s m args below meth c H locs cells slots (MQT below g (qI K) E args s h0) (F0 m 21 ls []) := by
  have hx := X.hx
  have hb := X.hb
  unfold w_X8_lend_J21 at hw
  refine r_aload_n X dX8_lend_21 rfl (lv_at hl 0 rfl) ?_
  refine lv_iconst (v := 1) hx hb dX8_lend_22 (by decide) ?_
  refine r_callI X hR (c_V (ci := 8) (q := (RX8, TX8, 32)) X hR hl.1 (c_X8_denied l g v0 1) (lw_V q2243 q2245 qs111 q125 q2246) rfl rfl mh_X8_denied rfl (by decide) (by decide) rfl (cat4 (Nat.le_of_ble_eq_true rfl)) dX8_lend_23 hw) (fun x3 h H locs cells slots hR hw => ?_)
  exact r_zret X hR dX8_lend_26 hw
theorem c_X8_lend (l : Launch) (g : GT) (v0 : Option Nat) (v1 : Int32) (v2 : Int32) : CT qI l yX8_lend (ws_ yX8_lend cX8_lend 3 (Option.some Jvm.ClassFile.FieldType.boolean)) 3 g [va_rf v0, .int v1, .int v2] (fun K E h => w_X8_lend g v0 v1 v2 K E h) := by
  refine CT_of (lv := [(0, va_rf v0), (1, .int v1), (2, .int v2)]) (by decide +kernel) (by simp [lg_sl, cat_rf, cat_int, cat_long]) (by simp [lv_args, cat_rf, cat_int, cat_long]) (fun h0 K E p e s m args below meth c H locs cells slots ls X hxt hmn hw hR hl => ?_)
  have hx := X.hx
  have hb := X.hb
  unfold w_X8_lend at hw
  refine r_aload_n X dX8_lend_0 rfl (lv_at hl 0 rfl) ?_
  refine lv_iconst (v := 0) hx hb dX8_lend_1 (by decide) ?_
  refine r_put X hR fp_X8_45 (Or.inl fn_X8_45) (nf_int _) dX8_lend_2 hw (fun H locs h hR hw => ?_)
  refine r_aload_n X dX8_lend_5 rfl (lv_at hl 0 rfl) ?_
  refine lv_iload_n hx hb dX8_lend_6 rfl (lv_at hl 1 rfl) ?_
  refine r_callI X hR (c_V (ci := 8) (q := (RX8, TX8, 32)) X hR hl.1 (c_X8_isUmbrella l g v0 v1) (lw_V q1945 q1947 qs79 q125 q1948) rfl rfl mh_X8_isUmbrella rfl (by decide) (by decide) rfl (cat4 (Nat.le_of_ble_eq_true rfl)) dX8_lend_7 hw) (fun x1 h H locs cells slots hR hw => ?_)
  refine lv_if_eq (tgt := 21) hx hb dX8_lend_10 (by decide) (fun c2 => ?_) (fun c2 => ?_)
  · have hw := hw.1 c2
    exact t_X8_lend_J21 X  hw hR (lv_sub hl [0] rfl)
  · have hw := hw.2 c2
    refine r_aload_n X dX8_lend_13 rfl (lv_at hl 0 rfl) ?_
    refine lv_iload_n hx hb dX8_lend_14 rfl (lv_at hl 2 rfl) ?_
    refine r_callI X hR (c_V (ci := 8) (q := (RX8, TX8, 32)) X hR hl.1 (c_X8_isPerson l g v0 v2) (lw_V q1953 q1955 qs80 q125 q1956) rfl rfl mh_X8_isPerson rfl (by decide) (by decide) rfl (cat4 (Nat.le_of_ble_eq_true rfl)) dX8_lend_15 hw) (fun x4 h H locs cells slots hR hw => ?_)
    refine lv_if_ne (tgt := 27) hx hb dX8_lend_18 (by decide) (fun c5 => ?_) (fun c5 => ?_)
    · have hw := hw.1 c5
      refine r_aload_n X dX8_lend_27 rfl (lv_at hl 0 rfl) ?_
      refine r_gR X hR fk_X8_17 dX8_lend_28 hw (fun x6 hw => ?_)
      refine lv_iconst (v := 0) hx hb dX8_lend_31 (by decide) ?_
      refine lv_iload_n hx hb dX8_lend_32 rfl (lv_at hl 1 rfl) ?_
      refine lv_iadd hx hb dX8_lend_33 ?_
      refine r_iald X hR dX8_lend_34 hw (fun x7 hw => ?_)
      refine lv_iload_n hx hb dX8_lend_35 rfl (lv_at hl 2 rfl) ?_
      refine lv_icmp_ne (tgt := 45) hx hb dX8_lend_36 (by decide) (fun c8 => ?_) (fun c8 => ?_)
      · have hw := hw.1 c8
        refine r_aload_n X dX8_lend_45 rfl (lv_at hl 0 rfl) ?_
        refine r_callV X hR (c_V (ci := 8) (q := (RX8, TX8, 32)) X hR hl.1 (c_X8_remembers l g v0) (lw_V q2247 q2249 qs112 q125 q2250) rfl rfl mh_X8_remembers rfl (by decide) (by decide) rfl (cat4 (Nat.le_of_ble_eq_true rfl)) dX8_lend_46 hw) (fun _ h H locs cells slots hR hw => ?_)
        refine r_aload_n X dX8_lend_49 rfl (lv_at hl 0 rfl) ?_
        refine r_gR X hR fk_X8_17 dX8_lend_50 hw (fun x9 hw => ?_)
        refine lv_iconst (v := 0) hx hb dX8_lend_53 (by decide) ?_
        refine lv_iload_n hx hb dX8_lend_54 rfl (lv_at hl 1 rfl) ?_
        refine lv_iadd hx hb dX8_lend_55 ?_
        refine lv_iload_n hx hb dX8_lend_56 rfl (lv_at hl 2 rfl) ?_
        refine r_iast X hR dX8_lend_57 hw (fun H locs h hR hw => ?_)
        refine r_aload_n X dX8_lend_58 rfl (lv_at hl 0 rfl) ?_
        refine r_callI X hR (c_V (ci := 8) (q := (RX8, TX8, 32)) X hR hl.1 (c_X8_granted l g v0) (lw_V q2251 q2253 qs113 q125 q2254) rfl rfl mh_X8_granted rfl (by decide) (by decide) rfl (cat4 (Nat.le_of_ble_eq_true rfl)) dX8_lend_59 hw) (fun x10 h H locs cells slots hR hw => ?_)
        exact r_zret X hR dX8_lend_62 hw
      · have hw := hw.2 c8
        refine r_aload_n X dX8_lend_39 rfl (lv_at hl 0 rfl) ?_
        refine lv_iconst (v := 5) hx hb dX8_lend_40 (by decide) ?_
        refine r_callI X hR (c_V (ci := 8) (q := (RX8, TX8, 32)) X hR hl.1 (c_X8_denied l g v0 5) (lw_V q2243 q2245 qs111 q125 q2246) rfl rfl mh_X8_denied rfl (by decide) (by decide) rfl (cat4 (Nat.le_of_ble_eq_true rfl)) dX8_lend_41 hw) (fun x11 h H locs cells slots hR hw => ?_)
        exact r_zret X hR dX8_lend_44 hw
    · have hw := hw.2 c5
      exact t_X8_lend_J21 X  hw hR (lv_sub hl [0] rfl)
theorem c_X8_leave (l : Launch) (g : GT) (v0 : Option Nat) (v1 : Int32) : CT qI l yX8_leave (ws_ yX8_leave cX8_leave 2 (Option.some Jvm.ClassFile.FieldType.boolean)) 3 g [va_rf v0, .int v1] (fun K E h => w_X8_leave g v0 v1 K E h) := by
  refine CT_of (lv := [(0, va_rf v0), (1, .int v1)]) (by decide +kernel) (by simp [lg_sl, cat_rf, cat_int, cat_long]) (by simp [lv_args, cat_rf, cat_int, cat_long]) (fun h0 K E p e s m args below meth c H locs cells slots ls X hxt hmn hw hR hl => ?_)
  have hx := X.hx
  have hb := X.hb
  unfold w_X8_leave at hw
  refine r_aload_n X dX8_leave_0 rfl (lv_at hl 0 rfl) ?_
  refine lv_iconst (v := 0) hx hb dX8_leave_1 (by decide) ?_
  refine r_put X hR fp_X8_45 (Or.inl fn_X8_45) (nf_int _) dX8_leave_2 hw (fun H locs h hR hw => ?_)
  refine r_aload_n X dX8_leave_5 rfl (lv_at hl 0 rfl) ?_
  refine lv_iload_n hx hb dX8_leave_6 rfl (lv_at hl 1 rfl) ?_
  refine r_callI X hR (c_V (ci := 8) (q := (RX8, TX8, 32)) X hR hl.1 (c_X8_isUmbrella l g v0 v1) (lw_V q1945 q1947 qs79 q125 q1948) rfl rfl mh_X8_isUmbrella rfl (by decide) (by decide) rfl (cat4 (Nat.le_of_ble_eq_true rfl)) dX8_leave_7 hw) (fun x1 h H locs cells slots hR hw => ?_)
  refine lv_if_ne (tgt := 19) hx hb dX8_leave_10 (by decide) (fun c2 => ?_) (fun c2 => ?_)
  · have hw := hw.1 c2
    refine r_aload_n X dX8_leave_19 rfl (lv_at hl 0 rfl) ?_
    refine r_gR X hR fk_X8_17 dX8_leave_20 hw (fun x3 hw => ?_)
    refine lv_iconst (v := 0) hx hb dX8_leave_23 (by decide) ?_
    refine lv_iload_n hx hb dX8_leave_24 rfl (lv_at hl 1 rfl) ?_
    refine lv_iadd hx hb dX8_leave_25 ?_
    refine r_iald X hR dX8_leave_26 hw (fun x4 hw => ?_)
    refine lv_bipush (v := (-2)) hx hb dX8_leave_27 (by decide) ?_
    refine lv_icmp_ne (tgt := 38) hx hb dX8_leave_29 (by decide) (fun c5 => ?_) (fun c5 => ?_)
    · have hw := hw.1 c5
      refine r_aload_n X dX8_leave_38 rfl (lv_at hl 0 rfl) ?_
      refine r_callV X hR (c_V (ci := 8) (q := (RX8, TX8, 32)) X hR hl.1 (c_X8_remembers l g v0) (lw_V q2247 q2249 qs112 q125 q2250) rfl rfl mh_X8_remembers rfl (by decide) (by decide) rfl (cat4 (Nat.le_of_ble_eq_true rfl)) dX8_leave_39 hw) (fun _ h H locs cells slots hR hw => ?_)
      refine r_aload_n X dX8_leave_42 rfl (lv_at hl 0 rfl) ?_
      refine r_gR X hR fk_X8_17 dX8_leave_43 hw (fun x6 hw => ?_)
      refine lv_iconst (v := 0) hx hb dX8_leave_46 (by decide) ?_
      refine lv_iload_n hx hb dX8_leave_47 rfl (lv_at hl 1 rfl) ?_
      refine lv_iadd hx hb dX8_leave_48 ?_
      refine lv_bipush (v := (-2)) hx hb dX8_leave_49 (by decide) ?_
      refine r_iast X hR dX8_leave_51 hw (fun H locs h hR hw => ?_)
      refine r_aload_n X dX8_leave_52 rfl (lv_at hl 0 rfl) ?_
      refine r_callI X hR (c_V (ci := 8) (q := (RX8, TX8, 32)) X hR hl.1 (c_X8_granted l g v0) (lw_V q2251 q2253 qs113 q125 q2254) rfl rfl mh_X8_granted rfl (by decide) (by decide) rfl (cat4 (Nat.le_of_ble_eq_true rfl)) dX8_leave_53 hw) (fun x7 h H locs cells slots hR hw => ?_)
      exact r_zret X hR dX8_leave_56 hw
    · have hw := hw.2 c5
      refine r_aload_n X dX8_leave_32 rfl (lv_at hl 0 rfl) ?_
      refine lv_iconst (v := 5) hx hb dX8_leave_33 (by decide) ?_
      refine r_callI X hR (c_V (ci := 8) (q := (RX8, TX8, 32)) X hR hl.1 (c_X8_denied l g v0 5) (lw_V q2243 q2245 qs111 q125 q2246) rfl rfl mh_X8_denied rfl (by decide) (by decide) rfl (cat4 (Nat.le_of_ble_eq_true rfl)) dX8_leave_34 hw) (fun x8 h H locs cells slots hR hw => ?_)
      exact r_zret X hR dX8_leave_37 hw
  · have hw := hw.2 c2
    refine r_aload_n X dX8_leave_13 rfl (lv_at hl 0 rfl) ?_
    refine lv_iconst (v := 1) hx hb dX8_leave_14 (by decide) ?_
    refine r_callI X hR (c_V (ci := 8) (q := (RX8, TX8, 32)) X hR hl.1 (c_X8_denied l g v0 1) (lw_V q2243 q2245 qs111 q125 q2246) rfl rfl mh_X8_denied rfl (by decide) (by decide) rfl (cat4 (Nat.le_of_ble_eq_true rfl)) dX8_leave_15 hw) (fun x9 h H locs cells slots hR hw => ?_)
    exact r_zret X hR dX8_leave_18 hw
theorem t_X8_exchange_J26 {p : Program} {l : Launch} {e : Env} {s : State} {m : MethodId} {args : Array Value} {below : List Frame} {meth : Method} {c : Code} {g : GT} {h0 : AH} {v0 : Option Nat} {K : Int32 → AH → Prop} {E : Nat → AH → Prop} {h : AH} {H : Heap} {locs : List Loc} {cells slots : Nat} {ls : Array Slot} (X : Cx g h0 p s m args meth c RX8 cX8_exchange 3 (Option.some Jvm.ClassFile.FieldType.boolean))  (hw : w_X8_exchange_J26 g v0 K E h) (hR : HS g s h H locs) (hl : lv_has ls 3 [(0, va_rf v0)]) : W p l e (RM 3 h0) s m args below meth c H locs cells slots (MQT below g (qI K) E args s h0) (F0 m 26 ls []) := by
  have hx := X.hx
  have hb := X.hb
  unfold w_X8_exchange_J26 at hw
  refine r_aload_n X dX8_exchange_26 rfl (lv_at hl 0 rfl) ?_
  refine lv_iconst (v := 1) hx hb dX8_exchange_27 (by decide) ?_
  refine r_callI X hR (c_V (ci := 8) (q := (RX8, TX8, 32)) X hR hl.1 (c_X8_denied l g v0 1) (lw_V q2243 q2245 qs111 q125 q2246) rfl rfl mh_X8_denied rfl (by decide) (by decide) rfl (cat4 (Nat.le_of_ble_eq_true rfl)) dX8_exchange_28 hw) (fun x3 h H locs cells slots hR hw => ?_)
  exact r_zret X hR dX8_exchange_31 hw
theorem c_X8_exchange (l : Launch) (g : GT) (v0 : Option Nat) (v1 : Int32) (v2 : Int32) : CT qI l yX8_exchange (ws_ yX8_exchange cX8_exchange 3 (Option.some Jvm.ClassFile.FieldType.boolean)) 3 g [va_rf v0, .int v1, .int v2] (fun K E h => w_X8_exchange g v0 v1 v2 K E h) := by
  refine CT_of (lv := [(0, va_rf v0), (1, .int v1), (2, .int v2)]) (by decide +kernel) (by simp [lg_sl, cat_rf, cat_int, cat_long]) (by simp [lv_args, cat_rf, cat_int, cat_long]) (fun h0 K E p e s m args below meth c H locs cells slots ls X hxt hmn hw hR hl => ?_)
  have hx := X.hx
  have hb := X.hb
  unfold w_X8_exchange at hw
  refine r_aload_n X dX8_exchange_0 rfl (lv_at hl 0 rfl) ?_
  refine lv_iconst (v := 0) hx hb dX8_exchange_1 (by decide) ?_
  refine r_put X hR fp_X8_45 (Or.inl fn_X8_45) (nf_int _) dX8_exchange_2 hw (fun H locs h hR hw => ?_)
  refine r_aload_n X dX8_exchange_5 rfl (lv_at hl 0 rfl) ?_
  refine lv_iload_n hx hb dX8_exchange_6 rfl (lv_at hl 1 rfl) ?_
  refine r_callI X hR (c_V (ci := 8) (q := (RX8, TX8, 32)) X hR hl.1 (c_X8_isUmbrella l g v0 v1) (lw_V q1945 q1947 qs79 q125 q1948) rfl rfl mh_X8_isUmbrella rfl (by decide) (by decide) rfl (cat4 (Nat.le_of_ble_eq_true rfl)) dX8_exchange_7 hw) (fun x1 h H locs cells slots hR hw => ?_)
  refine lv_if_eq (tgt := 26) hx hb dX8_exchange_10 (by decide) (fun c2 => ?_) (fun c2 => ?_)
  · have hw := hw.1 c2
    exact t_X8_exchange_J26 X  hw hR (lv_sub hl [0] rfl)
  · have hw := hw.2 c2
    refine r_aload_n X dX8_exchange_13 rfl (lv_at hl 0 rfl) ?_
    refine lv_iload_n hx hb dX8_exchange_14 rfl (lv_at hl 2 rfl) ?_
    refine r_callI X hR (c_V (ci := 8) (q := (RX8, TX8, 32)) X hR hl.1 (c_X8_isUmbrella l g v0 v2) (lw_V q1945 q1947 qs79 q125 q1948) rfl rfl mh_X8_isUmbrella rfl (by decide) (by decide) rfl (cat4 (Nat.le_of_ble_eq_true rfl)) dX8_exchange_15 hw) (fun x4 h H locs cells slots hR hw => ?_)
    refine lv_if_eq (tgt := 26) hx hb dX8_exchange_18 (by decide) (fun c5 => ?_) (fun c5 => ?_)
    · have hw := hw.1 c5
      exact t_X8_exchange_J26 X  hw hR (lv_sub hl [0] rfl)
    · have hw := hw.2 c5
      refine lv_iload_n hx hb dX8_exchange_21 rfl (lv_at hl 1 rfl) ?_
      refine lv_iload_n hx hb dX8_exchange_22 rfl (lv_at hl 2 rfl) ?_
      refine lv_icmp_ne (tgt := 32) hx hb dX8_exchange_23 (by decide) (fun c6 => ?_) (fun c6 => ?_)
      · have hw := hw.1 c6
        refine r_aload_n X dX8_exchange_32 rfl (lv_at hl 0 rfl) ?_
        refine r_aload_n X dX8_exchange_33 rfl (lv_at hl 0 rfl) ?_
        refine r_gR X hR fk_X8_17 dX8_exchange_34 hw (fun x7 hw => ?_)
        refine lv_iload_n hx hb dX8_exchange_37 rfl (lv_at hl 1 rfl) ?_
        refine lv_iload_n hx hb dX8_exchange_38 rfl (lv_at hl 2 rfl) ?_
        refine r_callI X hR (c_V (ci := 8) (q := (RX8, TX8, 32)) X hR hl.1 (c_X8_canExchange l g v0 x7 v1 v2) (lw_V q2095 q2097 qs96 q125 q2098) rfl rfl mh_X8_canExchange rfl (by decide) (by decide) rfl (cat4 (Nat.le_of_ble_eq_true rfl)) dX8_exchange_39 hw) (fun x8 h H locs cells slots hR hw => ?_)
        refine lv_if_ne (tgt := 51) hx hb dX8_exchange_42 (by decide) (fun c9 => ?_) (fun c9 => ?_)
        · have hw := hw.1 c9
          refine r_aload_n X dX8_exchange_51 rfl (lv_at hl 0 rfl) ?_
          refine r_callV X hR (c_V (ci := 8) (q := (RX8, TX8, 32)) X hR hl.1 (c_X8_remembers l g v0) (lw_V q2247 q2249 qs112 q125 q2250) rfl rfl mh_X8_remembers rfl (by decide) (by decide) rfl (cat4 (Nat.le_of_ble_eq_true rfl)) dX8_exchange_52 hw) (fun _ h H locs cells slots hR hw => ?_)
          refine r_aload_n X dX8_exchange_55 rfl (lv_at hl 0 rfl) ?_
          refine r_gR X hR fk_X8_17 dX8_exchange_56 hw (fun x10 hw => ?_)
          refine lv_iload_n hx hb dX8_exchange_59 rfl (lv_at hl 1 rfl) ?_
          refine lv_iload_n hx hb dX8_exchange_60 rfl (lv_at hl 2 rfl) ?_
          refine r_callV X hR (c_S X hR hl.1 (c_X8_changes l g x10 v1 v2) (lw_S q2005 q2006 q125 q2007) mh_X8_changes rfl (by decide) (by decide) rfl (cat4 (Nat.le_of_ble_eq_true rfl)) dX8_exchange_61 hw) (fun _ h H locs cells slots hR hw => ?_)
          refine r_aload_n X dX8_exchange_64 rfl (lv_at hl 0 rfl) ?_
          refine r_callI X hR (c_V (ci := 8) (q := (RX8, TX8, 32)) X hR hl.1 (c_X8_granted l g v0) (lw_V q2251 q2253 qs113 q125 q2254) rfl rfl mh_X8_granted rfl (by decide) (by decide) rfl (cat4 (Nat.le_of_ble_eq_true rfl)) dX8_exchange_65 hw) (fun x11 h H locs cells slots hR hw => ?_)
          exact r_zret X hR dX8_exchange_68 hw
        · have hw := hw.2 c9
          refine r_aload_n X dX8_exchange_45 rfl (lv_at hl 0 rfl) ?_
          refine lv_iconst (v := 5) hx hb dX8_exchange_46 (by decide) ?_
          refine r_callI X hR (c_V (ci := 8) (q := (RX8, TX8, 32)) X hR hl.1 (c_X8_denied l g v0 5) (lw_V q2243 q2245 qs111 q125 q2246) rfl rfl mh_X8_denied rfl (by decide) (by decide) rfl (cat4 (Nat.le_of_ble_eq_true rfl)) dX8_exchange_47 hw) (fun x12 h H locs cells slots hR hw => ?_)
          exact r_zret X hR dX8_exchange_50 hw
      · have hw := hw.2 c6
        exact t_X8_exchange_J26 X  hw hR (lv_sub hl [0] rfl)
theorem t_X8_day_J75 {p : Program} {l : Launch} {e : Env} {s : State} {m : MethodId} {args : Array Value} {below : List Frame} {meth : Method} {c : Code} {g : GT} {h0 : AH} {v0 : Option Nat} {v3 : Int32} {s0 : Int32} {s1 : Int32} {K : Int32 → AH → Prop} {E : Nat → AH → Prop} {L39 : Int32 → Int32 → AH → Prop} {h : AH} {H : Heap} {locs : List Loc} {cells slots : Nat} {ls : Array Slot} (X : Cx g h0 p s m args meth c RX8 cX8_day 4 (Option.some Jvm.ClassFile.FieldType.int)) (k39 : ∀ {v2' : Int32} {v3' : Int32} {h : AH} {H : Heap} {locs : List Loc} {cells slots : Nat} {ls : Array Slot}, L39 v2' v3' h → HS g s h H locs → lv_has ls 4 [(0, va_rf v0), (2, .int (v2')), (3, .int (v3'))] → W p l e (RM 4 h0) s m args below meth c H locs cells slots (MQT below g (qI K) E args s h0) (F0 m 39 ls [])) (hw : w_X8_day_J75 g v0 v3 s0 s1 K E L39 h) (hR : HS g s h H locs) (hl : lv_has ls 4 [(0, va_rf v0), (3, .int v3)]) : W p l e (RM 4 h0) s m args below meth c H locs cells slots (MQT below g (qI K) E args s h0) (F0 m 75 ls [.int s0, .int s1]) := by
  have hx := X.hx
  have hb := X.hb
  unfold w_X8_day_J75 at hw
  refine lv_iadd hx hb dX8_day_75 ?_
  refine r_nmI hw (fun x13 hw => ?_)
  refine lv_istore_n (i := 2) (lv' := [(2, .int x13), (0, va_rf v0), (3, .int v3)]) hx hb dX8_day_76 rfl hl (by decide) rfl (fun ls hl => ?_)
  refine r_iinc X (k := 2) (v := (v3 + 1)) (lv' := fun x14 => [(3, .int x14), (2, .int x13), (0, va_rf v0)]) dX8_day_77 hl rfl rfl (by decide) hw (fun _ => rfl) (fun x14 hw ls hl => ?_)
  refine lv_goto (tgt := 39) hx hb dX8_day_80 (by decide) ?_
  exact k39 hw hR (lv_sub hl [2, 1, 0] rfl)
theorem t_X8_day_L39 {p : Program} {l : Launch} {e : Env} {s : State} {m : MethodId} {args : Array Value} {below : List Frame} {meth : Method} {c : Code} {g : GT} {h0 : AH} {v0 : Option Nat} {K : Int32 → AH → Prop} {E : Nat → AH → Prop} (X : Cx g h0 p s m args meth c RX8 cX8_day 4 (Option.some Jvm.ClassFile.FieldType.int))  : ∀ (n : Nat) {v2 : Int32} {v3 : Int32} {h : AH} {H : Heap} {locs : List Loc} {cells slots : Nat} {ls : Array Slot}, LpN2 (w_X8_day_L39 g v0 K E) n v2 v3 h → HS g s h H locs → lv_has ls 4 [(0, va_rf v0), (2, .int v2), (3, .int v3)] → W p l e (RM 4 h0) s m args below meth c H locs cells slots (MQT below g (qI K) E args s h0) (F0 m 39 ls []) := by
  have hx := X.hx
  have hb := X.hb
  intro n
  induction n with
  | zero =>
    intro v2 v3 h H locs cells slots ls hw
    exact hw.elim
  | succ n k39 =>
    intro v2 v3 h H locs cells slots ls hw hR hl
    have hw : w_X8_day_L39 g v0 K E (LpN2 (w_X8_day_L39 g v0 K E) n) v2 v3 h := hw
    unfold w_X8_day_L39 at hw
    refine lv_iload_n hx hb dX8_day_39 rfl (lv_at hl 2 rfl) ?_
    refine r_aload_n X dX8_day_40 rfl (lv_at hl 0 rfl) ?_
    refine r_gR X hR fk_X8_316 dX8_day_41 hw (fun x4 hw => ?_)
    refine r_gI X hR fk_X8_194 dX8_day_44 hw (fun x5 hw => ?_)
    refine lv_icmp_ge (tgt := 83) hx hb dX8_day_47 (by decide) (fun c6 => ?_) (fun c6 => ?_)
    · have hw := hw.1 c6
      refine r_aload_n X dX8_day_83 rfl (lv_at hl 0 rfl) ?_
      refine lv_iload_n hx hb dX8_day_84 rfl (lv_at hl 1 rfl) ?_
      refine r_callI X hR (c_V (ci := 8) (q := (RX8, TX8, 32)) X hR hl.1 (c_X8_good l g v0 v2) (lw_V q1929 q1931 qs78 q125 q1932) rfl rfl mh_X8_good rfl (by decide) (by decide) rfl (cat4 (Nat.le_of_ble_eq_true rfl)) dX8_day_85 hw) (fun x7 h H locs cells slots hR hw => ?_)
      exact r_iret X hR dX8_day_88 hw
    · have hw := hw.2 c6
      refine lv_iload_n hx hb dX8_day_50 rfl (lv_at hl 1 rfl) ?_
      refine r_aload_n X dX8_day_51 rfl (lv_at hl 0 rfl) ?_
      refine r_gR X hR fk_X8_17 dX8_day_52 hw (fun x8 hw => ?_)
      refine lv_iconst (v := 5) hx hb dX8_day_55 (by decide) ?_
      refine lv_iload_n hx hb dX8_day_56 rfl (lv_at hl 2 rfl) ?_
      refine lv_iadd hx hb dX8_day_57 ?_
      refine r_iald X hR dX8_day_58 hw (fun x9 hw => ?_)
      refine r_aload_n X dX8_day_59 rfl (lv_at hl 0 rfl) ?_
      refine r_gR X hR fk_X8_21 dX8_day_60 hw (fun x10 hw => ?_)
      refine lv_iconst (v := 5) hx hb dX8_day_63 (by decide) ?_
      refine lv_iload_n hx hb dX8_day_64 rfl (lv_at hl 2 rfl) ?_
      refine lv_iadd hx hb dX8_day_65 ?_
      refine r_iald X hR dX8_day_66 hw (fun x11 hw => ?_)
      refine lv_icmp_ne (tgt := 74) hx hb dX8_day_67 (by decide) (fun c12 => ?_) (fun c12 => ?_)
      · have hw := hw.1 c12
        refine lv_iconst (v := 1) hx hb dX8_day_74 (by decide) ?_
        exact t_X8_day_J75 X k39 hw hR (lv_sub hl [0, 2] rfl)
      · have hw := hw.2 c12
        refine lv_iconst (v := 0) hx hb dX8_day_70 (by decide) ?_
        refine lv_goto (tgt := 75) hx hb dX8_day_71 (by decide) ?_
        exact t_X8_day_J75 X k39 hw hR (lv_sub hl [0, 2] rfl)
theorem c_X8_day (l : Launch) (g : GT) (v0 : Option Nat) (v1 : Int32) : CT qI l yX8_day (ws_ yX8_day cX8_day 4 (Option.some Jvm.ClassFile.FieldType.int)) 4 g [va_rf v0, .int v1] (fun K E h => w_X8_day g v0 v1 K E h) := by
  refine CT_of (lv := [(0, va_rf v0), (1, .int v1)]) (by decide +kernel) (by simp [lg_sl, cat_rf, cat_int, cat_long]) (by simp [lv_args, cat_rf, cat_int, cat_long]) (fun h0 K E p e s m args below meth c H locs cells slots ls X hxt hmn hw hR hl => ?_)
  have hx := X.hx
  have hb := X.hb
  unfold w_X8_day at hw
  refine r_aload_n X dX8_day_0 rfl (lv_at hl 0 rfl) ?_
  refine lv_iconst (v := 0) hx hb dX8_day_1 (by decide) ?_
  refine r_put X hR fp_X8_45 (Or.inl fn_X8_45) (nf_int _) dX8_day_2 hw (fun H locs h hR hw => ?_)
  refine r_aload_n X dX8_day_5 rfl (lv_at hl 0 rfl) ?_
  refine r_gR X hR fk_X8_316 dX8_day_6 hw (fun x1 hw => ?_)
  refine r_ifnonnull (tgt := 18) X dX8_day_9 (by decide) (fun c2 => ?_) (fun c2 => ?_)
  · have hw := hw.1 c2
    refine r_aload_n X dX8_day_18 rfl (lv_at hl 0 rfl) ?_
    refine r_callV X hR (c_V (ci := 8) (q := (RX8, TX8, 32)) X hR hl.1 (c_X8_remembers l g v0) (lw_V q2247 q2249 qs112 q125 q2250) rfl rfl mh_X8_remembers rfl (by decide) (by decide) rfl (cat4 (Nat.le_of_ble_eq_true rfl)) dX8_day_19 hw) (fun _ h H locs cells slots hR hw => ?_)
    refine r_aload_n X dX8_day_22 rfl (lv_at hl 0 rfl) ?_
    refine r_callV X hR (c_V (ci := 8) (q := (RX8, TX8, 32)) X hR hl.1 (c_X8_tries l g v0) (lw_V q2075 q2077 qs93 q125 q2078) rfl rfl mh_X8_tries rfl (by decide) (by decide) rfl (cat4 (Nat.le_of_ble_eq_true rfl)) dX8_day_23 hw) (fun _ h H locs cells slots hR hw => ?_)
    refine r_aload_n X dX8_day_26 rfl (lv_at hl 0 rfl) ?_
    refine r_aload_n X dX8_day_27 rfl (lv_at hl 0 rfl) ?_
    refine r_gR X hR fk_X8_17 dX8_day_28 hw (fun x3 hw => ?_)
    refine lv_iload_n hx hb dX8_day_31 rfl (lv_at hl 1 rfl) ?_
    refine r_callV X hR (c_V (ci := 8) (q := (RX8, TX8, 32)) X hR hl.1 (c_X8_ends l g v0 x3 v1) (lw_V q2008 q2010 qs88 q125 q2011) rfl rfl mh_X8_ends rfl (by decide) (by decide) rfl (cat4 (Nat.le_of_ble_eq_true rfl)) dX8_day_32 hw) (fun _ h H locs cells slots hR hw => ?_)
    refine lv_iconst (v := 0) hx hb dX8_day_35 (by decide) ?_
    refine lv_istore_n (i := 2) (lv' := [(2, .int 0), (0, va_rf v0), (1, .int v1)]) hx hb dX8_day_36 rfl hl (by decide) rfl (fun ls hl => ?_)
    refine lv_iconst (v := 0) hx hb dX8_day_37 (by decide) ?_
    refine lv_istore_n (i := 3) (lv' := [(3, .int 0), (2, .int 0), (0, va_rf v0), (1, .int v1)]) hx hb dX8_day_38 rfl hl (by decide) rfl (fun ls hl => ?_)
    obtain ⟨n, hw⟩ := hw
    exact t_X8_day_L39 X  n hw hR (lv_sub hl [2, 1, 0] rfl)
  · have hw := hw.2 c2
    refine r_aload_n X dX8_day_12 rfl (lv_at hl 0 rfl) ?_
    refine lv_iconst (v := 1) hx hb dX8_day_13 (by decide) ?_
    refine r_callI X hR (c_V (ci := 8) (q := (RX8, TX8, 32)) X hR hl.1 (c_X8_refused l g v0 1) (lw_V q1657 q1659 qs50 q125 q1660) rfl rfl mh_X8_refused rfl (by decide) (by decide) rfl (cat4 (Nat.le_of_ble_eq_true rfl)) dX8_day_14 hw) (fun x15 h H locs cells slots hR hw => ?_)
    exact r_iret X hR dX8_day_17 hw
theorem t_X8_undo_J19 {p : Program} {l : Launch} {e : Env} {s : State} {m : MethodId} {args : Array Value} {below : List Frame} {meth : Method} {c : Code} {g : GT} {h0 : AH} {v0 : Option Nat} {K : Int32 → AH → Prop} {E : Nat → AH → Prop} {h : AH} {H : Heap} {locs : List Loc} {cells slots : Nat} {ls : Array Slot} (X : Cx g h0 p s m args meth c RX8 cX8_undo 2 (Option.some Jvm.ClassFile.FieldType.boolean))  (hw : w_X8_undo_J19 g v0 K E h) (hR : HS g s h H locs) (hl : lv_has ls 2 [(0, va_rf v0)]) : W p l e (RM 3 h0) s m args below meth c H locs cells slots (MQT below g (qI K) E args s h0) (F0 m 19 ls []) := by
  have hx := X.hx
  have hb := X.hb
  unfold w_X8_undo_J19 at hw
  refine r_aload_n X dX8_undo_19 rfl (lv_at hl 0 rfl) ?_
  refine lv_bipush (v := 6) hx hb dX8_undo_20 (by decide) ?_
  refine r_callI X hR (c_V (ci := 8) (q := (RX8, TX8, 32)) X hR hl.1 (c_X8_denied l g v0 6) (lw_V q2243 q2245 qs111 q125 q2246) rfl rfl mh_X8_denied rfl (by decide) (by decide) rfl (cat4 (Nat.le_of_ble_eq_true rfl)) dX8_undo_22 hw) (fun x3 h H locs cells slots hR hw => ?_)
  exact r_zret X hR dX8_undo_25 hw
theorem t_X8_undo_L38 {p : Program} {l : Launch} {e : Env} {s : State} {m : MethodId} {args : Array Value} {below : List Frame} {meth : Method} {c : Code} {g : GT} {h0 : AH} {v0 : Option Nat} {K : Int32 → AH → Prop} {E : Nat → AH → Prop} (X : Cx g h0 p s m args meth c RX8 cX8_undo 2 (Option.some Jvm.ClassFile.FieldType.boolean))  : ∀ (n : Nat) {v1 : Int32} {h : AH} {H : Heap} {locs : List Loc} {cells slots : Nat} {ls : Array Slot}, LpN1 (w_X8_undo_L38 g v0 K E) n v1 h → HS g s h H locs → lv_has ls 2 [(0, va_rf v0), (1, .int v1)] → W p l e (RM 3 h0) s m args below meth c H locs cells slots (MQT below g (qI K) E args s h0) (F0 m 38 ls []) := by
  have hx := X.hx
  have hb := X.hb
  intro n
  induction n with
  | zero =>
    intro v1 h H locs cells slots ls hw
    exact hw.elim
  | succ n k38 =>
    intro v1 h H locs cells slots ls hw hR hl
    have hw : w_X8_undo_L38 g v0 K E (LpN1 (w_X8_undo_L38 g v0 K E) n) v1 h := hw
    unfold w_X8_undo_L38 at hw
    refine lv_iload_n hx hb dX8_undo_38 rfl (lv_at hl 1 rfl) ?_
    refine lv_bipush (v := 11) hx hb dX8_undo_39 (by decide) ?_
    refine lv_icmp_ge (tgt := 70) hx hb dX8_undo_41 (by decide) (fun c7 => ?_) (fun c7 => ?_)
    · have hw := hw.1 c7
      refine r_aload_n X dX8_undo_70 rfl (lv_at hl 0 rfl) ?_
      refine r_callI X hR (c_V (ci := 8) (q := (RX8, TX8, 32)) X hR hl.1 (c_X8_granted l g v0) (lw_V q2251 q2253 qs113 q125 q2254) rfl rfl mh_X8_granted rfl (by decide) (by decide) rfl (cat4 (Nat.le_of_ble_eq_true rfl)) dX8_undo_71 hw) (fun x8 h H locs cells slots hR hw => ?_)
      exact r_zret X hR dX8_undo_74 hw
    · have hw := hw.2 c7
      refine r_aload_n X dX8_undo_44 rfl (lv_at hl 0 rfl) ?_
      refine r_gR X hR fk_X8_17 dX8_undo_45 hw (fun x9 hw => ?_)
      refine lv_iload_n hx hb dX8_undo_48 rfl (lv_at hl 1 rfl) ?_
      refine r_aload_n X dX8_undo_49 rfl (lv_at hl 0 rfl) ?_
      refine r_gR X hR fk_X8_24 dX8_undo_50 hw (fun x10 hw => ?_)
      refine lv_bipush (v := 11) hx hb dX8_undo_53 (by decide) ?_
      refine r_aload_n X dX8_undo_55 rfl (lv_at hl 0 rfl) ?_
      refine r_gI X hR fk_X8_322 dX8_undo_56 hw (fun x11 hw => ?_)
      refine lv_imul hx hb dX8_undo_59 ?_
      refine lv_iload_n hx hb dX8_undo_60 rfl (lv_at hl 1 rfl) ?_
      refine lv_iadd hx hb dX8_undo_61 ?_
      refine r_iald X hR dX8_undo_62 hw (fun x12 hw => ?_)
      refine r_iast X hR dX8_undo_63 hw (fun H locs h hR hw => ?_)
      refine r_iinc X (k := 1) (v := (v1 + 1)) (lv' := fun x13 => [(1, .int x13), (0, va_rf v0)]) dX8_undo_64 hl rfl rfl (by decide) hw (fun _ => by simp [cat_rf, cat_int, cat_long]) (fun x13 hw ls hl => ?_)
      refine lv_goto (tgt := 38) hx hb dX8_undo_67 (by decide) ?_
      exact k38 hw hR (lv_sub hl [1, 0] rfl)
theorem c_X8_undo (l : Launch) (g : GT) (v0 : Option Nat) : CT qI l yX8_undo (ws_ yX8_undo cX8_undo 2 (Option.some Jvm.ClassFile.FieldType.boolean)) 3 g [va_rf v0] (fun K E h => w_X8_undo g v0 K E h) := by
  refine CT_of (lv := [(0, va_rf v0)]) (by decide +kernel) (by simp [lg_sl, cat_rf, cat_int, cat_long]) (by simp [lv_args, cat_rf, cat_int, cat_long]) (fun h0 K E p e s m args below meth c H locs cells slots ls X hxt hmn hw hR hl => ?_)
  have hx := X.hx
  have hb := X.hb
  unfold w_X8_undo at hw
  refine r_aload_n X dX8_undo_0 rfl (lv_at hl 0 rfl) ?_
  refine lv_iconst (v := 0) hx hb dX8_undo_1 (by decide) ?_
  refine r_put X hR fp_X8_45 (Or.inl fn_X8_45) (nf_int _) dX8_undo_2 hw (fun H locs h hR hw => ?_)
  refine r_aload_n X dX8_undo_5 rfl (lv_at hl 0 rfl) ?_
  refine r_gR X hR fk_X8_316 dX8_undo_6 hw (fun x1 hw => ?_)
  refine r_ifnull (tgt := 19) X dX8_undo_9 (by decide) (fun c2 => ?_) (fun c2 => ?_)
  · have hw := hw.1 c2
    exact t_X8_undo_J19 X  hw hR (lv_sub hl [0] rfl)
  · have hw := hw.2 c2
    refine r_aload_n X dX8_undo_12 rfl (lv_at hl 0 rfl) ?_
    refine r_gI X hR fk_X8_322 dX8_undo_13 hw (fun x4 hw => ?_)
    refine lv_if_ne (tgt := 26) hx hb dX8_undo_16 (by decide) (fun c5 => ?_) (fun c5 => ?_)
    · have hw := hw.1 c5
      refine r_aload_n X dX8_undo_26 rfl (lv_at hl 0 rfl) ?_
      refine lv_dup hx hb dX8_undo_27 (cat_rf _) ?_
      refine r_gI X hR fk_X8_322 dX8_undo_28 hw (fun x6 hw => ?_)
      refine lv_iconst (v := 1) hx hb dX8_undo_31 (by decide) ?_
      refine lv_isub hx hb dX8_undo_32 ?_
      refine r_put X hR fp_X8_322 (Or.inl fn_X8_322) (nf_int _) dX8_undo_33 hw (fun H locs h hR hw => ?_)
      refine lv_iconst (v := 0) hx hb dX8_undo_36 (by decide) ?_
      refine lv_istore_n (i := 1) (lv' := [(1, .int 0), (0, va_rf v0)]) hx hb dX8_undo_37 rfl hl (by decide) (by simp [cat_rf, cat_int, cat_long]) (fun ls hl => ?_)
      obtain ⟨n, hw⟩ := hw
      exact t_X8_undo_L38 X  n hw hR (lv_sub hl [1, 0] rfl)
    · have hw := hw.2 c5
      exact t_X8_undo_J19 X  hw hR (lv_sub hl [0] rfl)
theorem t_X8_mark_L34 {p : Program} {l : Launch} {e : Env} {s : State} {m : MethodId} {args : Array Value} {below : List Frame} {meth : Method} {c : Code} {g : GT} {h0 : AH} {v0 : Option Nat} {K : Int32 → AH → Prop} {E : Nat → AH → Prop} (X : Cx g h0 p s m args meth c RX8 cX8_mark 2 (Option.some Jvm.ClassFile.FieldType.int))  : ∀ (n : Nat) {v1 : Int32} {h : AH} {H : Heap} {locs : List Loc} {cells slots : Nat} {ls : Array Slot}, LpN1 (w_X8_mark_L34 g v0 K E) n v1 h → HS g s h H locs → lv_has ls 2 [(0, va_rf v0), (1, .int v1)] → W p l e (RM 2 h0) s m args below meth c H locs cells slots (MQT below g (qI K) E args s h0) (F0 m 34 ls []) := by
  have hx := X.hx
  have hb := X.hb
  intro n
  induction n with
  | zero =>
    intro v1 h H locs cells slots ls hw
    exact hw.elim
  | succ n k34 =>
    intro v1 h H locs cells slots ls hw hR hl
    have hw : w_X8_mark_L34 g v0 K E (LpN1 (w_X8_mark_L34 g v0 K E) n) v1 h := hw
    unfold w_X8_mark_L34 at hw
    refine lv_iload_n hx hb dX8_mark_34 rfl (lv_at hl 1 rfl) ?_
    refine lv_bipush (v := 11) hx hb dX8_mark_35 (by decide) ?_
    refine lv_icmp_ge (tgt := 66) hx hb dX8_mark_37 (by decide) (fun c5 => ?_) (fun c5 => ?_)
    · have hw := hw.1 c5
      refine r_aload_n X dX8_mark_66 rfl (lv_at hl 0 rfl) ?_
      refine lv_dup hx hb dX8_mark_67 (cat_rf _) ?_
      refine r_gI X hR fk_X8_325 dX8_mark_68 hw (fun x6 hw => ?_)
      refine lv_iconst (v := 1) hx hb dX8_mark_71 (by decide) ?_
      refine lv_iadd hx hb dX8_mark_72 ?_
      refine r_put X hR fp_X8_325 (Or.inl fn_X8_325) (nf_int _) dX8_mark_73 hw (fun H locs h hR hw => ?_)
      refine r_aload_n X dX8_mark_76 rfl (lv_at hl 0 rfl) ?_
      refine r_aload_n X dX8_mark_77 rfl (lv_at hl 0 rfl) ?_
      refine r_gI X hR fk_X8_325 dX8_mark_78 hw (fun x7 hw => ?_)
      refine lv_iconst (v := 1) hx hb dX8_mark_81 (by decide) ?_
      refine lv_isub hx hb dX8_mark_82 ?_
      refine r_callI X hR (c_V (ci := 8) (q := (RX8, TX8, 32)) X hR hl.1 (c_X8_good l g v0 (x7 - 1)) (lw_V q1929 q1931 qs78 q125 q1932) rfl rfl mh_X8_good rfl (by decide) (by decide) rfl (cat4 (Nat.le_of_ble_eq_true rfl)) dX8_mark_83 hw) (fun x8 h H locs cells slots hR hw => ?_)
      exact r_iret X hR dX8_mark_86 hw
    · have hw := hw.2 c5
      refine r_aload_n X dX8_mark_40 rfl (lv_at hl 0 rfl) ?_
      refine r_gR X hR fk_X8_27 dX8_mark_41 hw (fun x9 hw => ?_)
      refine lv_bipush (v := 11) hx hb dX8_mark_44 (by decide) ?_
      refine r_aload_n X dX8_mark_46 rfl (lv_at hl 0 rfl) ?_
      refine r_gI X hR fk_X8_325 dX8_mark_47 hw (fun x10 hw => ?_)
      refine lv_imul hx hb dX8_mark_50 ?_
      refine lv_iload_n hx hb dX8_mark_51 rfl (lv_at hl 1 rfl) ?_
      refine lv_iadd hx hb dX8_mark_52 ?_
      refine r_aload_n X dX8_mark_53 rfl (lv_at hl 0 rfl) ?_
      refine r_gR X hR fk_X8_17 dX8_mark_54 hw (fun x11 hw => ?_)
      refine lv_iload_n hx hb dX8_mark_57 rfl (lv_at hl 1 rfl) ?_
      refine r_iald X hR dX8_mark_58 hw (fun x12 hw => ?_)
      refine r_iast X hR dX8_mark_59 hw (fun H locs h hR hw => ?_)
      refine r_iinc X (k := 1) (v := (v1 + 1)) (lv' := fun x13 => [(1, .int x13), (0, va_rf v0)]) dX8_mark_60 hl rfl rfl (by decide) hw (fun _ => by simp [cat_rf, cat_int, cat_long]) (fun x13 hw ls hl => ?_)
      refine lv_goto (tgt := 34) hx hb dX8_mark_63 (by decide) ?_
      exact k34 hw hR (lv_sub hl [1, 0] rfl)
theorem c_X8_mark (l : Launch) (g : GT) (v0 : Option Nat) : CT qI l yX8_mark (ws_ yX8_mark cX8_mark 2 (Option.some Jvm.ClassFile.FieldType.int)) 2 g [va_rf v0] (fun K E h => w_X8_mark g v0 K E h) := by
  refine CT_of (lv := [(0, va_rf v0)]) (by decide +kernel) (by simp [lg_sl, cat_rf, cat_int, cat_long]) (by simp [lv_args, cat_rf, cat_int, cat_long]) (fun h0 K E p e s m args below meth c H locs cells slots ls X hxt hmn hw hR hl => ?_)
  have hx := X.hx
  have hb := X.hb
  unfold w_X8_mark at hw
  refine r_aload_n X dX8_mark_0 rfl (lv_at hl 0 rfl) ?_
  refine lv_iconst (v := 0) hx hb dX8_mark_1 (by decide) ?_
  refine r_put X hR fp_X8_45 (Or.inl fn_X8_45) (nf_int _) dX8_mark_2 hw (fun H locs h hR hw => ?_)
  refine r_aload_n X dX8_mark_5 rfl (lv_at hl 0 rfl) ?_
  refine r_gR X hR fk_X8_316 dX8_mark_6 hw (fun x1 hw => ?_)
  refine r_ifnonnull (tgt := 18) X dX8_mark_9 (by decide) (fun c2 => ?_) (fun c2 => ?_)
  · have hw := hw.1 c2
    refine r_aload_n X dX8_mark_18 rfl (lv_at hl 0 rfl) ?_
    refine r_gI X hR fk_X8_325 dX8_mark_19 hw (fun x3 hw => ?_)
    refine lv_iconst (v := 3) hx hb dX8_mark_22 (by decide) ?_
    refine lv_icmp_ne (tgt := 32) hx hb dX8_mark_23 (by decide) (fun c4 => ?_) (fun c4 => ?_)
    · have hw := hw.1 c4
      refine lv_iconst (v := 0) hx hb dX8_mark_32 (by decide) ?_
      refine lv_istore_n (i := 1) (lv' := [(1, .int 0), (0, va_rf v0)]) hx hb dX8_mark_33 rfl hl (by decide) (by simp [cat_rf, cat_int, cat_long]) (fun ls hl => ?_)
      obtain ⟨n, hw⟩ := hw
      exact t_X8_mark_L34 X  n hw hR (lv_sub hl [1, 0] rfl)
    · have hw := hw.2 c4
      refine r_aload_n X dX8_mark_26 rfl (lv_at hl 0 rfl) ?_
      refine lv_iconst (v := 3) hx hb dX8_mark_27 (by decide) ?_
      refine r_callI X hR (c_V (ci := 8) (q := (RX8, TX8, 32)) X hR hl.1 (c_X8_refused l g v0 3) (lw_V q1657 q1659 qs50 q125 q1660) rfl rfl mh_X8_refused rfl (by decide) (by decide) rfl (cat4 (Nat.le_of_ble_eq_true rfl)) dX8_mark_28 hw) (fun x14 h H locs cells slots hR hw => ?_)
      exact r_iret X hR dX8_mark_31 hw
  · have hw := hw.2 c2
    refine r_aload_n X dX8_mark_12 rfl (lv_at hl 0 rfl) ?_
    refine lv_iconst (v := 1) hx hb dX8_mark_13 (by decide) ?_
    refine r_callI X hR (c_V (ci := 8) (q := (RX8, TX8, 32)) X hR hl.1 (c_X8_refused l g v0 1) (lw_V q1657 q1659 qs50 q125 q1660) rfl rfl mh_X8_refused rfl (by decide) (by decide) rfl (cat4 (Nat.le_of_ble_eq_true rfl)) dX8_mark_14 hw) (fun x15 h H locs cells slots hR hw => ?_)
    exact r_iret X hR dX8_mark_17 hw
theorem t_X8_back_J24 {p : Program} {l : Launch} {e : Env} {s : State} {m : MethodId} {args : Array Value} {below : List Frame} {meth : Method} {c : Code} {g : GT} {h0 : AH} {v0 : Option Nat} {K : Int32 → AH → Prop} {E : Nat → AH → Prop} {h : AH} {H : Heap} {locs : List Loc} {cells slots : Nat} {ls : Array Slot} (X : Cx g h0 p s m args meth c RX8 cX8_back 3 (Option.some Jvm.ClassFile.FieldType.boolean))  (hw : w_X8_back_J24 g v0 K E h) (hR : HS g s h H locs) (hl : lv_has ls 3 [(0, va_rf v0)]) : W p l e (RM 3 h0) s m args below meth c H locs cells slots (MQT below g (qI K) E args s h0) (F0 m 24 ls []) := by
  have hx := X.hx
  have hb := X.hb
  unfold w_X8_back_J24 at hw
  refine r_aload_n X dX8_back_24 rfl (lv_at hl 0 rfl) ?_
  refine lv_iconst (v := 1) hx hb dX8_back_25 (by decide) ?_
  refine r_callI X hR (c_V (ci := 8) (q := (RX8, TX8, 32)) X hR hl.1 (c_X8_denied l g v0 1) (lw_V q2243 q2245 qs111 q125 q2246) rfl rfl mh_X8_denied rfl (by decide) (by decide) rfl (cat4 (Nat.le_of_ble_eq_true rfl)) dX8_back_26 hw) (fun x3 h H locs cells slots hR hw => ?_)
  exact r_zret X hR dX8_back_29 hw
theorem t_X8_back_L32 {p : Program} {l : Launch} {e : Env} {s : State} {m : MethodId} {args : Array Value} {below : List Frame} {meth : Method} {c : Code} {g : GT} {h0 : AH} {v0 : Option Nat} {v1 : Int32} {K : Int32 → AH → Prop} {E : Nat → AH → Prop} (X : Cx g h0 p s m args meth c RX8 cX8_back 3 (Option.some Jvm.ClassFile.FieldType.boolean))  : ∀ (n : Nat) {v2 : Int32} {h : AH} {H : Heap} {locs : List Loc} {cells slots : Nat} {ls : Array Slot}, LpN1 (w_X8_back_L32 g v0 v1 K E) n v2 h → HS g s h H locs → lv_has ls 3 [(0, va_rf v0), (1, .int v1), (2, .int v2)] → W p l e (RM 3 h0) s m args below meth c H locs cells slots (MQT below g (qI K) E args s h0) (F0 m 32 ls []) := by
  have hx := X.hx
  have hb := X.hb
  intro n
  induction n with
  | zero =>
    intro v2 h H locs cells slots ls hw
    exact hw.elim
  | succ n k32 =>
    intro v2 h H locs cells slots ls hw hR hl
    have hw : w_X8_back_L32 g v0 v1 K E (LpN1 (w_X8_back_L32 g v0 v1 K E) n) v2 h := hw
    unfold w_X8_back_L32 at hw
    refine lv_iload_n hx hb dX8_back_32 rfl (lv_at hl 2 rfl) ?_
    refine lv_bipush (v := 11) hx hb dX8_back_33 (by decide) ?_
    refine lv_icmp_ge (tgt := 61) hx hb dX8_back_35 (by decide) (fun c7 => ?_) (fun c7 => ?_)
    · have hw := hw.1 c7
      refine r_aload_n X dX8_back_61 rfl (lv_at hl 0 rfl) ?_
      refine lv_iconst (v := 0) hx hb dX8_back_62 (by decide) ?_
      refine r_put X hR fp_X8_322 (Or.inl fn_X8_322) (nf_int _) dX8_back_63 hw (fun H locs h hR hw => ?_)
      refine r_aload_n X dX8_back_66 rfl (lv_at hl 0 rfl) ?_
      refine r_callI X hR (c_V (ci := 8) (q := (RX8, TX8, 32)) X hR hl.1 (c_X8_granted l g v0) (lw_V q2251 q2253 qs113 q125 q2254) rfl rfl mh_X8_granted rfl (by decide) (by decide) rfl (cat4 (Nat.le_of_ble_eq_true rfl)) dX8_back_67 hw) (fun x8 h H locs cells slots hR hw => ?_)
      exact r_zret X hR dX8_back_70 hw
    · have hw := hw.2 c7
      refine r_aload_n X dX8_back_38 rfl (lv_at hl 0 rfl) ?_
      refine r_gR X hR fk_X8_17 dX8_back_39 hw (fun x9 hw => ?_)
      refine lv_iload_n hx hb dX8_back_42 rfl (lv_at hl 2 rfl) ?_
      refine r_aload_n X dX8_back_43 rfl (lv_at hl 0 rfl) ?_
      refine r_gR X hR fk_X8_27 dX8_back_44 hw (fun x10 hw => ?_)
      refine lv_bipush (v := 11) hx hb dX8_back_47 (by decide) ?_
      refine lv_iload_n hx hb dX8_back_49 rfl (lv_at hl 1 rfl) ?_
      refine lv_imul hx hb dX8_back_50 ?_
      refine lv_iload_n hx hb dX8_back_51 rfl (lv_at hl 2 rfl) ?_
      refine lv_iadd hx hb dX8_back_52 ?_
      refine r_iald X hR dX8_back_53 hw (fun x11 hw => ?_)
      refine r_iast X hR dX8_back_54 hw (fun H locs h hR hw => ?_)
      refine r_iinc X (k := 2) (v := (v2 + 1)) (lv' := fun x12 => [(2, .int x12), (0, va_rf v0), (1, .int v1)]) dX8_back_55 hl rfl rfl (by decide) hw (fun _ => rfl) (fun x12 hw ls hl => ?_)
      refine lv_goto (tgt := 32) hx hb dX8_back_58 (by decide) ?_
      exact k32 hw hR (lv_sub hl [1, 2, 0] rfl)
theorem c_X8_back (l : Launch) (g : GT) (v0 : Option Nat) (v1 : Int32) : CT qI l yX8_back (ws_ yX8_back cX8_back 3 (Option.some Jvm.ClassFile.FieldType.boolean)) 3 g [va_rf v0, .int v1] (fun K E h => w_X8_back g v0 v1 K E h) := by
  refine CT_of (lv := [(0, va_rf v0), (1, .int v1)]) (by decide +kernel) (by simp [lg_sl, cat_rf, cat_int, cat_long]) (by simp [lv_args, cat_rf, cat_int, cat_long]) (fun h0 K E p e s m args below meth c H locs cells slots ls X hxt hmn hw hR hl => ?_)
  have hx := X.hx
  have hb := X.hb
  unfold w_X8_back at hw
  refine r_aload_n X dX8_back_0 rfl (lv_at hl 0 rfl) ?_
  refine lv_iconst (v := 0) hx hb dX8_back_1 (by decide) ?_
  refine r_put X hR fp_X8_45 (Or.inl fn_X8_45) (nf_int _) dX8_back_2 hw (fun H locs h hR hw => ?_)
  refine r_aload_n X dX8_back_5 rfl (lv_at hl 0 rfl) ?_
  refine r_gR X hR fk_X8_316 dX8_back_6 hw (fun x1 hw => ?_)
  refine r_ifnull (tgt := 24) X dX8_back_9 (by decide) (fun c2 => ?_) (fun c2 => ?_)
  · have hw := hw.1 c2
    exact t_X8_back_J24 X  hw hR (lv_sub hl [0] rfl)
  · have hw := hw.2 c2
    refine lv_iload_n hx hb dX8_back_12 rfl (lv_at hl 1 rfl) ?_
    refine lv_if_lt (tgt := 24) hx hb dX8_back_13 (by decide) (fun c4 => ?_) (fun c4 => ?_)
    · have hw := hw.1 c4
      exact t_X8_back_J24 X  hw hR (lv_sub hl [0] rfl)
    · have hw := hw.2 c4
      refine lv_iload_n hx hb dX8_back_16 rfl (lv_at hl 1 rfl) ?_
      refine r_aload_n X dX8_back_17 rfl (lv_at hl 0 rfl) ?_
      refine r_gI X hR fk_X8_325 dX8_back_18 hw (fun x5 hw => ?_)
      refine lv_icmp_lt (tgt := 30) hx hb dX8_back_21 (by decide) (fun c6 => ?_) (fun c6 => ?_)
      · have hw := hw.1 c6
        refine lv_iconst (v := 0) hx hb dX8_back_30 (by decide) ?_
        refine lv_istore_n (i := 2) (lv' := [(2, .int 0), (0, va_rf v0), (1, .int v1)]) hx hb dX8_back_31 rfl hl (by decide) rfl (fun ls hl => ?_)
        obtain ⟨n, hw⟩ := hw
        exact t_X8_back_L32 X  n hw hR (lv_sub hl [1, 2, 0] rfl)
      · have hw := hw.2 c6
        exact t_X8_back_J24 X  hw hR (lv_sub hl [0] rfl)
theorem t_X8_led_J59 {p : Program} {l : Launch} {e : Env} {s : State} {m : MethodId} {args : Array Value} {below : List Frame} {meth : Method} {c : Code} {g : GT} {h0 : AH} {v0 : Option Nat} {K : Int32 → AH → Prop} {E : Nat → AH → Prop} {h : AH} {H : Heap} {locs : List Loc} {cells slots : Nat} {ls : Array Slot} (X : Cx g h0 p s m args meth c RX8 cX8_led 4 (Option.some Jvm.ClassFile.FieldType.int))  (hw : w_X8_led_J59 g v0 K E h) (hR : HS g s h H locs) (hl : lv_has ls 4 [(0, va_rf v0)]) : W p l e (RM 1 h0) s m args below meth c H locs cells slots (MQT below g (qI K) E args s h0) (F0 m 59 ls []) := by
  have hx := X.hx
  have hb := X.hb
  unfold w_X8_led_J59 at hw
  refine r_aload_n X dX8_led_59 rfl (lv_at hl 0 rfl) ?_
  refine lv_iconst (v := 1) hx hb dX8_led_60 (by decide) ?_
  refine r_put X hR fp_X8_45 (Or.inl fn_X8_45) (nf_int _) dX8_led_61 hw (fun H locs h hR hw => ?_)
  refine lv_iconst (v := 0) hx hb dX8_led_64 (by decide) ?_
  exact r_iret X hR dX8_led_65 hw
theorem t_X8_led_J53 {p : Program} {l : Launch} {e : Env} {s : State} {m : MethodId} {args : Array Value} {below : List Frame} {meth : Method} {c : Code} {g : GT} {h0 : AH} {v0 : Option Nat} {v1 : Int32} {v2 : Int32} {v3 : Int32} {K : Int32 → AH → Prop} {E : Nat → AH → Prop} {L9 : Int32 → Int32 → AH → Prop} {h : AH} {H : Heap} {locs : List Loc} {cells slots : Nat} {ls : Array Slot} (X : Cx g h0 p s m args meth c RX8 cX8_led 4 (Option.some Jvm.ClassFile.FieldType.int)) (k9 : ∀ {v2' : Int32} {v3' : Int32} {h : AH} {H : Heap} {locs : List Loc} {cells slots : Nat} {ls : Array Slot}, L9 v2' v3' h → HS g s h H locs → lv_has ls 4 [(0, va_rf v0), (1, .int v1), (2, .int (v2')), (3, .int (v3'))] → W p l e (RM 1 h0) s m args below meth c H locs cells slots (MQT below g (qI K) E args s h0) (F0 m 9 ls [])) (hw : w_X8_led_J53 g v0 v1 v2 v3 K E L9 h) (hR : HS g s h H locs) (hl : lv_has ls 4 [(0, va_rf v0), (1, .int v1), (2, .int v2), (3, .int v3)]) : W p l e (RM 1 h0) s m args below meth c H locs cells slots (MQT below g (qI K) E args s h0) (F0 m 53 ls []) := by
  have hx := X.hx
  have hb := X.hb
  unfold w_X8_led_J53 at hw
  refine r_iinc X (k := 3) (v := (v3 + 1)) (lv' := fun x11 => [(3, .int x11), (0, va_rf v0), (1, .int v1), (2, .int v2)]) dX8_led_53 hl rfl rfl (by decide) hw (fun _ => rfl) (fun x11 hw ls hl => ?_)
  refine lv_goto (tgt := 9) hx hb dX8_led_56 (by decide) ?_
  exact k9 hw hR (lv_sub hl [1, 2, 3, 0] rfl)
theorem t_X8_led_L9 {p : Program} {l : Launch} {e : Env} {s : State} {m : MethodId} {args : Array Value} {below : List Frame} {meth : Method} {c : Code} {g : GT} {h0 : AH} {v0 : Option Nat} {v1 : Int32} {K : Int32 → AH → Prop} {E : Nat → AH → Prop} (X : Cx g h0 p s m args meth c RX8 cX8_led 4 (Option.some Jvm.ClassFile.FieldType.int))  : ∀ (n : Nat) {v2 : Int32} {v3 : Int32} {h : AH} {H : Heap} {locs : List Loc} {cells slots : Nat} {ls : Array Slot}, LpN2 (w_X8_led_L9 g v0 v1 K E) n v2 v3 h → HS g s h H locs → lv_has ls 4 [(0, va_rf v0), (1, .int v1), (2, .int v2), (3, .int v3)] → W p l e (RM 1 h0) s m args below meth c H locs cells slots (MQT below g (qI K) E args s h0) (F0 m 9 ls []) := by
  have hx := X.hx
  have hb := X.hb
  intro n
  induction n with
  | zero =>
    intro v2 v3 h H locs cells slots ls hw
    exact hw.elim
  | succ n k9 =>
    intro v2 v3 h H locs cells slots ls hw hR hl
    have hw : w_X8_led_L9 g v0 v1 K E (LpN2 (w_X8_led_L9 g v0 v1 K E) n) v2 v3 h := hw
    unfold w_X8_led_L9 at hw
    refine r_aload_n X dX8_led_9 rfl (lv_at hl 0 rfl) ?_
    refine r_gR X hR fk_X8_316 dX8_led_10 hw (fun x1 hw => ?_)
    refine r_ifnull (tgt := 59) X dX8_led_13 (by decide) (fun c2 => ?_) (fun c2 => ?_)
    · have hw := hw.1 c2
      exact t_X8_led_J59 X  hw hR (lv_sub hl [0] rfl)
    · have hw := hw.2 c2
      refine lv_iload_n hx hb dX8_led_16 rfl (lv_at hl 3 rfl) ?_
      refine r_aload_n X dX8_led_17 rfl (lv_at hl 0 rfl) ?_
      refine r_gR X hR fk_X8_316 dX8_led_18 hw (fun x3 hw => ?_)
      refine r_gI X hR fk_X8_194 dX8_led_21 hw (fun x4 hw => ?_)
      refine lv_icmp_ge (tgt := 59) hx hb dX8_led_24 (by decide) (fun c5 => ?_) (fun c5 => ?_)
      · have hw := hw.1 c5
        exact t_X8_led_J59 X  hw hR (lv_sub hl [0] rfl)
      · have hw := hw.2 c5
        refine r_aload_n X dX8_led_27 rfl (lv_at hl 0 rfl) ?_
        refine r_gR X hR fk_X8_17 dX8_led_28 hw (fun x6 hw => ?_)
        refine lv_iconst (v := 0) hx hb dX8_led_31 (by decide) ?_
        refine lv_iload_n hx hb dX8_led_32 rfl (lv_at hl 3 rfl) ?_
        refine lv_iadd hx hb dX8_led_33 ?_
        refine r_iald X hR dX8_led_34 hw (fun x7 hw => ?_)
        refine lv_bipush (v := (-2)) hx hb dX8_led_35 (by decide) ?_
        refine lv_icmp_eq (tgt := 43) hx hb dX8_led_37 (by decide) (fun c8 => ?_) (fun c8 => ?_)
        · have hw := hw.1 c8
          refine lv_iload_n hx hb dX8_led_43 rfl (lv_at hl 2 rfl) ?_
          refine lv_iload_n hx hb dX8_led_44 rfl (lv_at hl 1 rfl) ?_
          refine lv_icmp_ne (tgt := 50) hx hb dX8_led_45 (by decide) (fun c9 => ?_) (fun c9 => ?_)
          · have hw := hw.1 c9
            refine r_iinc X (k := 2) (v := (v2 + 1)) (lv' := fun x10 => [(2, .int x10), (0, va_rf v0), (1, .int v1), (3, .int v3)]) dX8_led_50 hl rfl rfl (by decide) hw (fun _ => rfl) (fun x10 hw ls hl => ?_)
            exact t_X8_led_J53 X k9 hw hR (lv_sub hl [1, 2, 0, 3] rfl)
          · have hw := hw.2 c9
            refine lv_iload_n hx hb dX8_led_48 rfl (lv_at hl 3 rfl) ?_
            exact r_iret X hR dX8_led_49 hw
        · have hw := hw.2 c8
          refine lv_goto (tgt := 53) hx hb dX8_led_40 (by decide) ?_
          exact t_X8_led_J53 X k9 hw hR (lv_sub hl [0, 1, 2, 3] rfl)
theorem c_X8_led (l : Launch) (g : GT) (v0 : Option Nat) (v1 : Int32) : CT qI l yX8_led (ws_ yX8_led cX8_led 4 (Option.some Jvm.ClassFile.FieldType.int)) 1 g [va_rf v0, .int v1] (fun K E h => w_X8_led g v0 v1 K E h) := by
  refine CT_of (lv := [(0, va_rf v0), (1, .int v1)]) (by decide +kernel) (by simp [lg_sl, cat_rf, cat_int, cat_long]) (by simp [lv_args, cat_rf, cat_int, cat_long]) (fun h0 K E p e s m args below meth c H locs cells slots ls X hxt hmn hw hR hl => ?_)
  have hx := X.hx
  have hb := X.hb
  unfold w_X8_led at hw
  refine r_aload_n X dX8_led_0 rfl (lv_at hl 0 rfl) ?_
  refine lv_iconst (v := 0) hx hb dX8_led_1 (by decide) ?_
  refine r_put X hR fp_X8_45 (Or.inl fn_X8_45) (nf_int _) dX8_led_2 hw (fun H locs h hR hw => ?_)
  refine lv_iconst (v := 0) hx hb dX8_led_5 (by decide) ?_
  refine lv_istore_n (i := 2) (lv' := [(2, .int 0), (0, va_rf v0), (1, .int v1)]) hx hb dX8_led_6 rfl hl (by decide) rfl (fun ls hl => ?_)
  refine lv_iconst (v := 0) hx hb dX8_led_7 (by decide) ?_
  refine lv_istore_n (i := 3) (lv' := [(3, .int 0), (2, .int 0), (0, va_rf v0), (1, .int v1)]) hx hb dX8_led_8 rfl hl (by decide) rfl (fun ls hl => ?_)
  obtain ⟨n, hw⟩ := hw
  exact t_X8_led_L9 X  n hw hR (lv_sub hl [2, 3, 1, 0] rfl)
theorem c_X8_size (l : Launch) (g : GT) (v0 : Option Nat) (v1 : Int32) : CT qI l yX8_size (ws_ yX8_size cX8_size 2 (Option.some Jvm.ClassFile.FieldType.int)) 2 g [va_rf v0, .int v1] (fun K E h => w_X8_size g v0 v1 K E h) := by
  refine CT_of (lv := [(0, va_rf v0), (1, .int v1)]) (by decide +kernel) (by simp [lg_sl, cat_rf, cat_int, cat_long]) (by simp [lv_args, cat_rf, cat_int, cat_long]) (fun h0 K E p e s m args below meth c H locs cells slots ls X hxt hmn hw hR hl => ?_)
  have hx := X.hx
  have hb := X.hb
  unfold w_X8_size at hw
  refine r_aload_n X dX8_size_0 rfl (lv_at hl 0 rfl) ?_
  refine lv_iconst (v := 0) hx hb dX8_size_1 (by decide) ?_
  refine r_put X hR fp_X8_45 (Or.inl fn_X8_45) (nf_int _) dX8_size_2 hw (fun H locs h hR hw => ?_)
  refine lv_iload_n hx hb dX8_size_5 rfl (lv_at hl 1 rfl) ?_
  refine lv_bipush (v := 10) hx hb dX8_size_6 (by decide) ?_
  refine lv_icmp_ne (tgt := 16) hx hb dX8_size_8 (by decide) (fun c1 => ?_) (fun c1 => ?_)
  · have hw := hw.1 c1
    refine lv_iload_n hx hb dX8_size_16 rfl (lv_at hl 1 rfl) ?_
    refine lv_iconst (v := 0) hx hb dX8_size_17 (by decide) ?_
    refine lv_bipush (v := 9) hx hb dX8_size_18 (by decide) ?_
    refine r_callI X hR (c_S X hR hl.1 (c_X8_in l g v1 0 9) (lw_S q1834 q1835 q125 q1836) mh_X8_in rfl (by decide) (by decide) rfl (cat4 (Nat.le_of_ble_eq_true rfl)) dX8_size_20 hw) (fun x2 h H locs cells slots hR hw => ?_)
    refine lv_if_ne (tgt := 28) hx hb dX8_size_23 (by decide) (fun c3 => ?_) (fun c3 => ?_)
    · have hw := hw.1 c3
      refine r_aload_n X dX8_size_28 rfl (lv_at hl 0 rfl) ?_
      refine r_gR X hR fk_X8_316 dX8_size_29 hw (fun x4 hw => ?_)
      refine r_ifnonnull (tgt := 37) X dX8_size_32 (by decide) (fun c5 => ?_) (fun c5 => ?_)
      · have hw := hw.1 c5
        refine lv_iload_n hx hb dX8_size_37 rfl (lv_at hl 1 rfl) ?_
        by_cases c6_0 : v1 = 0
        · have hw := swT_at hw 0 rfl c6_0
          rw [c6_0]
          refine lv_tableIn (tgt := 88) hx hb dX8_size_38 (by decide) (by decide) rfl (by decide) ?_
          refine r_aload_n X dX8_size_88 rfl (lv_at hl 0 rfl) ?_
          refine r_gR X hR fk_X8_316 dX8_size_89 hw (fun x7 hw => ?_)
          refine r_gI X hR fk_X8_156 dX8_size_92 hw (fun x8 hw => ?_)
          exact r_iret X hR dX8_size_95 hw
        by_cases c6_1 : v1 = 1
        · have hw := swT_at hw 1 rfl c6_1
          rw [c6_1]
          refine lv_tableIn (tgt := 96) hx hb dX8_size_38 (by decide) (by decide) rfl (by decide) ?_
          refine r_aload_n X dX8_size_96 rfl (lv_at hl 0 rfl) ?_
          refine r_gR X hR fk_X8_316 dX8_size_97 hw (fun x9 hw => ?_)
          refine r_gI X hR fk_X8_230 dX8_size_100 hw (fun x10 hw => ?_)
          exact r_iret X hR dX8_size_103 hw
        by_cases c6_2 : v1 = 2
        · have hw := swT_at hw 2 rfl c6_2
          rw [c6_2]
          refine lv_tableIn (tgt := 104) hx hb dX8_size_38 (by decide) (by decide) rfl (by decide) ?_
          refine r_aload_n X dX8_size_104 rfl (lv_at hl 0 rfl) ?_
          refine r_gR X hR fk_X8_316 dX8_size_105 hw (fun x11 hw => ?_)
          refine r_gI X hR fk_X8_232 dX8_size_108 hw (fun x12 hw => ?_)
          exact r_iret X hR dX8_size_111 hw
        by_cases c6_3 : v1 = 3
        · have hw := swT_at hw 3 rfl c6_3
          rw [c6_3]
          refine lv_tableIn (tgt := 112) hx hb dX8_size_38 (by decide) (by decide) rfl (by decide) ?_
          refine r_aload_n X dX8_size_112 rfl (lv_at hl 0 rfl) ?_
          refine r_gR X hR fk_X8_316 dX8_size_113 hw (fun x13 hw => ?_)
          refine r_gI X hR fk_X8_191 dX8_size_116 hw (fun x14 hw => ?_)
          exact r_iret X hR dX8_size_119 hw
        by_cases c6_4 : v1 = 4
        · have hw := swT_at hw 4 rfl c6_4
          rw [c6_4]
          refine lv_tableIn (tgt := 120) hx hb dX8_size_38 (by decide) (by decide) rfl (by decide) ?_
          refine r_aload_n X dX8_size_120 rfl (lv_at hl 0 rfl) ?_
          refine r_gR X hR fk_X8_316 dX8_size_121 hw (fun x15 hw => ?_)
          refine r_gI X hR fk_X8_194 dX8_size_124 hw (fun x16 hw => ?_)
          exact r_iret X hR dX8_size_127 hw
        by_cases c6_5 : v1 = 5
        · have hw := swT_at hw 5 rfl c6_5
          rw [c6_5]
          refine lv_tableIn (tgt := 128) hx hb dX8_size_38 (by decide) (by decide) rfl (by decide) ?_
          refine r_aload_n X dX8_size_128 rfl (lv_at hl 0 rfl) ?_
          refine r_gR X hR fk_X8_316 dX8_size_129 hw (fun x17 hw => ?_)
          refine r_gI X hR fk_X8_279 dX8_size_132 hw (fun x18 hw => ?_)
          exact r_iret X hR dX8_size_135 hw
        by_cases c6_6 : v1 = 6
        · have hw := swT_at hw 6 rfl c6_6
          rw [c6_6]
          refine lv_tableIn (tgt := 136) hx hb dX8_size_38 (by decide) (by decide) rfl (by decide) ?_
          refine r_aload_n X dX8_size_136 rfl (lv_at hl 0 rfl) ?_
          refine r_gR X hR fk_X8_316 dX8_size_137 hw (fun x19 hw => ?_)
          refine r_gI X hR fk_X8_298 dX8_size_140 hw (fun x20 hw => ?_)
          exact r_iret X hR dX8_size_143 hw
        by_cases c6_7 : v1 = 7
        · have hw := swT_at hw 7 rfl c6_7
          rw [c6_7]
          refine lv_tableIn (tgt := 144) hx hb dX8_size_38 (by decide) (by decide) rfl (by decide) ?_
          refine r_aload_n X dX8_size_144 rfl (lv_at hl 0 rfl) ?_
          refine r_gR X hR fk_X8_17 dX8_size_145 hw (fun x21 hw => ?_)
          refine lv_bipush (v := 10) hx hb dX8_size_148 (by decide) ?_
          refine r_iald X hR dX8_size_150 hw (fun x22 hw => ?_)
          exact r_iret X hR dX8_size_151 hw
        by_cases c6_8 : v1 = 8
        · have hw := swT_at hw 8 rfl c6_8
          rw [c6_8]
          refine lv_tableIn (tgt := 152) hx hb dX8_size_38 (by decide) (by decide) rfl (by decide) ?_
          refine r_aload_n X dX8_size_152 rfl (lv_at hl 0 rfl) ?_
          refine r_gI X hR fk_X8_322 dX8_size_153 hw (fun x23 hw => ?_)
          exact r_iret X hR dX8_size_156 hw
        have hw := hw.2 (List.forall_mem_cons.mpr ⟨c6_0, (List.forall_mem_cons.mpr ⟨c6_1, (List.forall_mem_cons.mpr ⟨c6_2, (List.forall_mem_cons.mpr ⟨c6_3, (List.forall_mem_cons.mpr ⟨c6_4, (List.forall_mem_cons.mpr ⟨c6_5, (List.forall_mem_cons.mpr ⟨c6_6, (List.forall_mem_cons.mpr ⟨c6_7, (List.forall_mem_cons.mpr ⟨c6_8, (fun _ h => absurd h List.not_mem_nil)⟩)⟩)⟩)⟩)⟩)⟩)⟩)⟩)⟩)
        refine lv_tableOut (tgt := 157) hx hb dX8_size_38 (sw_out (x := v1) (lo := 0) (n := 9) (by decide) (lt_s (lt_s (lt_s (lt_s (lt_s (lt_s (lt_s (lt_s (lt_s lt_0 c6_0) c6_1) c6_2) c6_3) c6_4) c6_5) c6_6) c6_7) c6_8)) (by decide) ?_
        refine r_aload_n X dX8_size_157 rfl (lv_at hl 0 rfl) ?_
        refine r_gI X hR fk_X8_325 dX8_size_158 hw (fun x24 hw => ?_)
        exact r_iret X hR dX8_size_161 hw
      · have hw := hw.2 c5
        refine lv_iconst (v := 0) hx hb dX8_size_35 (by decide) ?_
        exact r_iret X hR dX8_size_36 hw
    · have hw := hw.2 c3
      refine lv_iconst (v := (-1)) hx hb dX8_size_26 (by decide) ?_
      exact r_iret X hR dX8_size_27 hw
  · have hw := hw.2 c1
    refine r_aload_n X dX8_size_11 rfl (lv_at hl 0 rfl) ?_
    refine r_gI X hR fk_X8_309 dX8_size_12 hw (fun x25 hw => ?_)
    exact r_iret X hR dX8_size_15 hw
theorem c_X8_trouble (l : Launch) (g : GT) (v0 : Option Nat) : CT qI l yX8_trouble (ws_ yX8_trouble cX8_trouble 1 (Option.some Jvm.ClassFile.FieldType.int)) 1 g [va_rf v0] (fun K E h => w_X8_trouble g v0 K E h) := by
  refine CT_of (lv := [(0, va_rf v0)]) (by decide +kernel) (by simp [lg_sl, cat_rf, cat_int, cat_long]) (by simp [lv_args, cat_rf, cat_int, cat_long]) (fun h0 K E p e s m args below meth c H locs cells slots ls X hxt hmn hw hR hl => ?_)
  have hx := X.hx
  have hb := X.hb
  unfold w_X8_trouble at hw
  refine r_aload_n X dX8_trouble_0 rfl (lv_at hl 0 rfl) ?_
  refine lv_iconst (v := 0) hx hb dX8_trouble_1 (by decide) ?_
  refine r_put X hR fp_X8_45 (Or.inl fn_X8_45) (nf_int _) dX8_trouble_2 hw (fun H locs h hR hw => ?_)
  refine r_aload_n X dX8_trouble_5 rfl (lv_at hl 0 rfl) ?_
  refine r_gI X hR fk_X8_48 dX8_trouble_6 hw (fun x1 hw => ?_)
  exact r_iret X hR dX8_trouble_9 hw
