set_option maxRecDepth 100000
theorem t_X1_seekWays_J130 {p : Program} {l : Launch} {e : Env} {s : State} {m : MethodId} {args : Array Value} {below : List Frame} {meth : Method} {c : Code} {g : GT} {h0 : AH} {v0 : Option Nat} {v1 : Int32} {v2 : Int32} {v3 : Int32} {v4 : Int32} {K : Unit → AH → Prop} {E : Nat → AH → Prop} {L54 : Int32 → AH → Prop} {h : AH} {H : Heap} {locs : List Loc} {cells slots : Nat} {ls : Array Slot} (X : Cx g h0 p s m args meth c RX1 cX1_seekWays 5 none) (k54 : ∀ {v4' : Int32} {h : AH} {H : Heap} {locs : List Loc} {cells slots : Nat} {ls : Array Slot}, L54 v4' h → HS g s h H locs → lv_has ls 5 [(0, va_rf v0), (1, .int v1), (2, .int v2), (3, .int v3), (4, .int (v4'))] → W p l e (RM 5 h0) s m args below meth c H locs cells slots (MQT below g (qV K) E args s h0) (F0 m 54 ls [])) (hw : w_X1_seekWays_J130 g v0 v1 v2 v3 v4 K E L54 h) (hR : HS g s h H locs) (hl : lv_has ls 5 [(0, va_rf v0), (1, .int v1), (2, .int v2), (3, .int v3), (4, .int v4)]) : W p l e (RM 5 h0) s m args below meth c H locs cells slots (MQT below g (qV K) E args s h0) (F0 m 130 ls []) := by
  have hx := X.hx
  have hb := X.hb
  unfold w_X1_seekWays_J130 at hw
  refine r_iinc X (k := 4) (v := (v4 + 1)) (lv' := fun x24 => [(4, .int x24), (0, va_rf v0), (1, .int v1), (2, .int v2), (3, .int v3)]) dX1_seekWays_130 hl rfl rfl (by decide) hw (fun _ => rfl) (fun x24 hw ls hl => ?_)
  refine lv_goto (tgt := 54) hx hb dX1_seekWays_133 (by decide) ?_
  exact k54 hw hR (lv_sub hl [1, 2, 3, 4, 0] rfl)
theorem t_X1_seekWays_L54 {p : Program} {l : Launch} {e : Env} {s : State} {m : MethodId} {args : Array Value} {below : List Frame} {meth : Method} {c : Code} {g : GT} {h0 : AH} {v0 : Option Nat} {v1 : Int32} {v2 : Int32} {v3 : Int32} {K : Unit → AH → Prop} {E : Nat → AH → Prop} {L38 : Int32 → AH → Prop} (X : Cx g h0 p s m args meth c RX1 cX1_seekWays 5 none) (k38 : ∀ {v3' : Int32} {h : AH} {H : Heap} {locs : List Loc} {cells slots : Nat} {ls : Array Slot}, L38 v3' h → HS g s h H locs → lv_has ls 5 [(0, va_rf v0), (1, .int v1), (2, .int v2), (3, .int (v3'))] → W p l e (RM 5 h0) s m args below meth c H locs cells slots (MQT below g (qV K) E args s h0) (F0 m 38 ls [])) : ∀ (n : Nat) {v4 : Int32} {h : AH} {H : Heap} {locs : List Loc} {cells slots : Nat} {ls : Array Slot}, LpN1 (w_X1_seekWays_L54 g v0 v1 v2 v3 K E L38) n v4 h → HS g s h H locs → lv_has ls 5 [(0, va_rf v0), (1, .int v1), (2, .int v2), (3, .int v3), (4, .int v4)] → W p l e (RM 5 h0) s m args below meth c H locs cells slots (MQT below g (qV K) E args s h0) (F0 m 54 ls []) := by
  have hx := X.hx
  have hb := X.hb
  intro n
  induction n with
  | zero =>
    intro v4 h H locs cells slots ls hw
    exact hw.elim
  | succ n k54 =>
    intro v4 h H locs cells slots ls hw hR hl
    have hw : w_X1_seekWays_L54 g v0 v1 v2 v3 K E L38 (LpN1 (w_X1_seekWays_L54 g v0 v1 v2 v3 K E L38) n) v4 h := hw
    unfold w_X1_seekWays_L54 at hw
    refine lv_iload hx hb dX1_seekWays_54 (lv_at hl 4 rfl) ?_
    refine r_aload_n X dX1_seekWays_56 rfl (lv_at hl 0 rfl) ?_
    refine r_gR X hR fk_X1_102 dX1_seekWays_57 hw (fun x11 hw => ?_)
    refine r_gI X hR fk_X1_126 dX1_seekWays_60 hw (fun x12 hw => ?_)
    refine lv_icmp_ge (tgt := 136) hx hb dX1_seekWays_63 (by decide) (fun c13 => ?_) (fun c13 => ?_)
    · have hw := hw.1 c13
      refine r_iinc X (k := 3) (v := (v3 + 1)) (lv' := fun x14 => [(3, .int x14), (0, va_rf v0), (1, .int v1), (2, .int v2), (4, .int v4)]) dX1_seekWays_136 hl rfl rfl (by decide) hw (fun _ => rfl) (fun x14 hw ls hl => ?_)
      refine lv_goto (tgt := 38) hx hb dX1_seekWays_139 (by decide) ?_
      exact k38 hw hR (lv_sub hl [1, 2, 3, 0] rfl)
    · have hw := hw.2 c13
      refine r_aload_n X dX1_seekWays_66 rfl (lv_at hl 0 rfl) ?_
      refine r_gR X hR fk_X1_102 dX1_seekWays_67 hw (fun x15 hw => ?_)
      refine lv_iload_n hx hb dX1_seekWays_70 rfl (lv_at hl 3 rfl) ?_
      refine lv_iload hx hb dX1_seekWays_71 (lv_at hl 4 rfl) ?_
      refine r_callI X hR (c_V (ci := 9) (q := (RX9, TX9, 11)) X hR hl.1 (c_X9_areAlike l g x15 v3 v4) (lw_V q1190 q1191 q1192 q126 q1193) rfl rfl mh_X9_areAlike rfl (by decide) (by decide) rfl (cat4 (Nat.le_of_ble_eq_true rfl)) dX1_seekWays_73 hw) (fun x16 h H locs cells slots hR hw => ?_)
      refine lv_if_ne (tgt := 82) hx hb dX1_seekWays_76 (by decide) (fun c17 => ?_) (fun c17 => ?_)
      · have hw := hw.1 c17
        refine r_aload_n X dX1_seekWays_82 rfl (lv_at hl 0 rfl) ?_
        refine r_gR X hR fk_X1_50 dX1_seekWays_83 hw (fun x18 hw => ?_)
        refine r_aload_n X dX1_seekWays_86 rfl (lv_at hl 0 rfl) ?_
        refine r_gR X hR fk_X1_102 dX1_seekWays_87 hw (fun x19 hw => ?_)
        refine lv_iload_n hx hb dX1_seekWays_90 rfl (lv_at hl 2 rfl) ?_
        refine lv_iload_n hx hb dX1_seekWays_91 rfl (lv_at hl 3 rfl) ?_
        refine lv_iload hx hb dX1_seekWays_92 (lv_at hl 4 rfl) ?_
        refine r_callV X hR (c_V (ci := 5) (q := (RX5, TX5, 3)) X hR hl.1 (c_X5_run l g x18 x19 v2 v3 v4) (lw_V q1039 q1040 q1041 q122 q1042) rfl rfl mh_X5_run rfl (by decide) (by decide) rfl (cat4 (Nat.le_of_ble_eq_true rfl)) dX1_seekWays_94 hw) (fun _ h H locs cells slots hR hw => ?_)
        refine r_aload_n X dX1_seekWays_97 rfl (lv_at hl 0 rfl) ?_
        refine r_gR X hR fk_X1_50 dX1_seekWays_98 hw (fun x20 hw => ?_)
        refine r_aload_n X dX1_seekWays_101 rfl (lv_at hl 0 rfl) ?_
        refine r_gR X hR fk_X1_102 dX1_seekWays_102 hw (fun x21 hw => ?_)
        refine r_callI X hR (c_V (ci := 5) (q := (RX5, TX5, 3)) X hR hl.1 (c_X5_wrongly l g x20 x21) (lw_V q1247 q1248 q1249 q122 q1250) rfl rfl mh_X5_wrongly rfl (by decide) (by decide) rfl (cat4 (Nat.le_of_ble_eq_true rfl)) dX1_seekWays_105 hw) (fun x22 h H locs cells slots hR hw => ?_)
        refine lv_bipush (v := (-2)) hx hb dX1_seekWays_108 (by decide) ?_
        refine lv_icmp_ne (tgt := 130) hx hb dX1_seekWays_110 (by decide) (fun c23 => ?_) (fun c23 => ?_)
        · have hw := hw.1 c23
          exact t_X1_seekWays_J130 X k54 hw hR (lv_sub hl [0, 1, 2, 3, 4] rfl)
        · have hw := hw.2 c23
          refine r_aload_n X dX1_seekWays_113 rfl (lv_at hl 0 rfl) ?_
          refine lv_bipush (v := 100) hx hb dX1_seekWays_114 (by decide) ?_
          refine lv_iload_n hx hb dX1_seekWays_116 rfl (lv_at hl 2 rfl) ?_
          refine lv_imul hx hb dX1_seekWays_117 ?_
          refine lv_bipush (v := 10) hx hb dX1_seekWays_118 (by decide) ?_
          refine lv_iload_n hx hb dX1_seekWays_120 rfl (lv_at hl 3 rfl) ?_
          refine lv_imul hx hb dX1_seekWays_121 ?_
          refine lv_iadd hx hb dX1_seekWays_122 ?_
          refine lv_iload hx hb dX1_seekWays_123 (lv_at hl 4 rfl) ?_
          refine lv_iadd hx hb dX1_seekWays_125 ?_
          refine lv_iload_n hx hb dX1_seekWays_126 rfl (lv_at hl 1 rfl) ?_
          refine r_callV X hR (c_V (ci := 1) (q := (RX1, TX1, 21)) X hR hl.1 (c_X1_way l g v0 (((100 * v2) + (10 * v3)) + v4) v1) (lw_V q1260 q1262 qs37 q115 q1263) rfl rfl mh_X1_way rfl (by decide) (by decide) rfl (cat4 (Nat.le_of_ble_eq_true rfl)) dX1_seekWays_127 hw) (fun _ h H locs cells slots hR hw => ?_)
          exact t_X1_seekWays_J130 X k54 hw hR (lv_sub hl [0, 1, 2, 3, 4] rfl)
      · have hw := hw.2 c17
        refine lv_goto (tgt := 130) hx hb dX1_seekWays_79 (by decide) ?_
        exact t_X1_seekWays_J130 X k54 hw hR (lv_sub hl [0, 1, 2, 3, 4] rfl)
theorem t_X1_seekWays_L38 {p : Program} {l : Launch} {e : Env} {s : State} {m : MethodId} {args : Array Value} {below : List Frame} {meth : Method} {c : Code} {g : GT} {h0 : AH} {v0 : Option Nat} {v1 : Int32} {v2 : Int32} {K : Unit → AH → Prop} {E : Nat → AH → Prop} {L30 : Int32 → AH → Prop} (X : Cx g h0 p s m args meth c RX1 cX1_seekWays 5 none) (k30 : ∀ {v2' : Int32} {h : AH} {H : Heap} {locs : List Loc} {cells slots : Nat} {ls : Array Slot}, L30 v2' h → HS g s h H locs → lv_has ls 5 [(0, va_rf v0), (1, .int v1), (2, .int (v2'))] → W p l e (RM 5 h0) s m args below meth c H locs cells slots (MQT below g (qV K) E args s h0) (F0 m 30 ls [])) : ∀ (n : Nat) {v3 : Int32} {h : AH} {H : Heap} {locs : List Loc} {cells slots : Nat} {ls : Array Slot}, LpN1 (w_X1_seekWays_L38 g v0 v1 v2 K E L30) n v3 h → HS g s h H locs → lv_has ls 5 [(0, va_rf v0), (1, .int v1), (2, .int v2), (3, .int v3)] → W p l e (RM 5 h0) s m args below meth c H locs cells slots (MQT below g (qV K) E args s h0) (F0 m 38 ls []) := by
  have hx := X.hx
  have hb := X.hb
  intro n
  induction n with
  | zero =>
    intro v3 h H locs cells slots ls hw
    exact hw.elim
  | succ n k38 =>
    intro v3 h H locs cells slots ls hw hR hl
    have hw : w_X1_seekWays_L38 g v0 v1 v2 K E L30 (LpN1 (w_X1_seekWays_L38 g v0 v1 v2 K E L30) n) v3 h := hw
    unfold w_X1_seekWays_L38 at hw
    refine lv_iload_n hx hb dX1_seekWays_38 rfl (lv_at hl 3 rfl) ?_
    refine r_aload_n X dX1_seekWays_39 rfl (lv_at hl 0 rfl) ?_
    refine r_gR X hR fk_X1_102 dX1_seekWays_40 hw (fun x6 hw => ?_)
    refine r_gI X hR fk_X1_126 dX1_seekWays_43 hw (fun x7 hw => ?_)
    refine lv_icmp_ge (tgt := 142) hx hb dX1_seekWays_46 (by decide) (fun c8 => ?_) (fun c8 => ?_)
    · have hw := hw.1 c8
      refine r_iinc X (k := 2) (v := (v2 + 1)) (lv' := fun x9 => [(2, .int x9), (0, va_rf v0), (1, .int v1), (3, .int v3)]) dX1_seekWays_142 hl rfl rfl (by decide) hw (fun _ => rfl) (fun x9 hw ls hl => ?_)
      refine lv_goto (tgt := 30) hx hb dX1_seekWays_145 (by decide) ?_
      exact k30 hw hR (lv_sub hl [1, 2, 0] rfl)
    · have hw := hw.2 c8
      refine lv_iload_n hx hb dX1_seekWays_49 rfl (lv_at hl 3 rfl) ?_
      refine lv_iconst (v := 1) hx hb dX1_seekWays_50 (by decide) ?_
      refine lv_iadd hx hb dX1_seekWays_51 ?_
      refine r_nmI hw (fun x10 hw => ?_)
      refine lv_istore (i := 4) (lv' := [(4, .int x10), (0, va_rf v0), (1, .int v1), (2, .int v2), (3, .int v3)]) hx hb dX1_seekWays_52 hl (by decide) rfl (fun ls hl => ?_)
      obtain ⟨n, hw⟩ := hw
      exact t_X1_seekWays_L54 X k38 n hw hR (lv_sub hl [1, 2, 3, 4, 0] rfl)
theorem t_X1_seekWays_L30 {p : Program} {l : Launch} {e : Env} {s : State} {m : MethodId} {args : Array Value} {below : List Frame} {meth : Method} {c : Code} {g : GT} {h0 : AH} {v0 : Option Nat} {v1 : Int32} {K : Unit → AH → Prop} {E : Nat → AH → Prop} (X : Cx g h0 p s m args meth c RX1 cX1_seekWays 5 none)  : ∀ (n : Nat) {v2 : Int32} {h : AH} {H : Heap} {locs : List Loc} {cells slots : Nat} {ls : Array Slot}, LpN1 (w_X1_seekWays_L30 g v0 v1 K E) n v2 h → HS g s h H locs → lv_has ls 5 [(0, va_rf v0), (1, .int v1), (2, .int v2)] → W p l e (RM 5 h0) s m args below meth c H locs cells slots (MQT below g (qV K) E args s h0) (F0 m 30 ls []) := by
  have hx := X.hx
  have hb := X.hb
  intro n
  induction n with
  | zero =>
    intro v2 h H locs cells slots ls hw
    exact hw.elim
  | succ n k30 =>
    intro v2 h H locs cells slots ls hw hR hl
    have hw : w_X1_seekWays_L30 g v0 v1 K E (LpN1 (w_X1_seekWays_L30 g v0 v1 K E) n) v2 h := hw
    unfold w_X1_seekWays_L30 at hw
    refine lv_iload_n hx hb dX1_seekWays_30 rfl (lv_at hl 2 rfl) ?_
    refine lv_bipush (v := 40) hx hb dX1_seekWays_31 (by decide) ?_
    refine lv_icmp_gt (tgt := 148) hx hb dX1_seekWays_33 (by decide) (fun c5 => ?_) (fun c5 => ?_)
    · have hw := hw.1 c5
      exact r_vret X hR rfl dX1_seekWays_148 hw
    · have hw := hw.2 c5
      refine lv_iconst (v := 0) hx hb dX1_seekWays_36 (by decide) ?_
      refine lv_istore_n (i := 3) (lv' := [(3, .int 0), (0, va_rf v0), (1, .int v1), (2, .int v2)]) hx hb dX1_seekWays_37 rfl hl (by decide) rfl (fun ls hl => ?_)
      obtain ⟨n, hw⟩ := hw
      exact t_X1_seekWays_L38 X k30 n hw hR (lv_sub hl [1, 2, 3, 0] rfl)
theorem t_X1_seekWays_J28 {p : Program} {l : Launch} {e : Env} {s : State} {m : MethodId} {args : Array Value} {below : List Frame} {meth : Method} {c : Code} {g : GT} {h0 : AH} {v0 : Option Nat} {v1 : Int32} {K : Unit → AH → Prop} {E : Nat → AH → Prop} {h : AH} {H : Heap} {locs : List Loc} {cells slots : Nat} {ls : Array Slot} (X : Cx g h0 p s m args meth c RX1 cX1_seekWays 5 none)  (hw : w_X1_seekWays_J28 g v0 v1 K E h) (hR : HS g s h H locs) (hl : lv_has ls 5 [(0, va_rf v0), (1, .int v1)]) : W p l e (RM 5 h0) s m args below meth c H locs cells slots (MQT below g (qV K) E args s h0) (F0 m 28 ls []) := by
  have hx := X.hx
  have hb := X.hb
  unfold w_X1_seekWays_J28 at hw
  refine lv_iconst (v := 0) hx hb dX1_seekWays_28 (by decide) ?_
  refine lv_istore_n (i := 2) (lv' := [(2, .int 0), (0, va_rf v0), (1, .int v1)]) hx hb dX1_seekWays_29 rfl hl (by decide) rfl (fun ls hl => ?_)
  obtain ⟨n, hw⟩ := hw
  exact t_X1_seekWays_L30 X  n hw hR (lv_sub hl [1, 2, 0] rfl)
theorem c_X1_seekWays (l : Launch) (g : GT) (v0 : Option Nat) (v1 : Int32) : CT qV l yX1_seekWays (ws_ yX1_seekWays cX1_seekWays 5 none) 5 g [va_rf v0, .int v1] (fun K E h => w_X1_seekWays g v0 v1 K E h) := by
  refine CT_of (lv := [(0, va_rf v0), (1, .int v1)]) (by decide +kernel) (by simp [lg_sl, cat_rf, cat_int, cat_long]) (by simp [lv_args, cat_rf, cat_int, cat_long]) (fun h0 K E p e s m args below meth c H locs cells slots ls X hxt hmn hw hR hl => ?_)
  have hx := X.hx
  have hb := X.hb
  unfold w_X1_seekWays at hw
  refine r_aload_n X dX1_seekWays_0 rfl (lv_at hl 0 rfl) ?_
  refine lv_iconst (v := 0) hx hb dX1_seekWays_1 (by decide) ?_
  refine r_put X hR fp_X1_203 (Or.inl fn_X1_203) (nf_int _) dX1_seekWays_2 hw (fun H locs h hR hw => ?_)
  refine r_aload_n X dX1_seekWays_5 rfl (lv_at hl 0 rfl) ?_
  refine r_gR X hR fk_X1_46 dX1_seekWays_6 hw (fun x1 hw => ?_)
  refine r_aload_n X dX1_seekWays_9 rfl (lv_at hl 0 rfl) ?_
  refine r_gR X hR fk_X1_102 dX1_seekWays_10 hw (fun x2 hw => ?_)
  refine r_callI X hR (c_V (ci := 5) (q := (RX5, TX5, 3)) X hR hl.1 (c_X5_wrongly l g x1 x2) (lw_V q1247 q1248 q1249 q122 q1250) rfl rfl mh_X5_wrongly rfl (by decide) (by decide) rfl (cat4 (Nat.le_of_ble_eq_true rfl)) dX1_seekWays_13 hw) (fun x3 h H locs cells slots hR hw => ?_)
  refine lv_bipush (v := (-2)) hx hb dX1_seekWays_16 (by decide) ?_
  refine lv_icmp_ne (tgt := 28) hx hb dX1_seekWays_18 (by decide) (fun c4 => ?_) (fun c4 => ?_)
  · have hw := hw.1 c4
    exact t_X1_seekWays_J28 X  hw hR (lv_sub hl [0, 1] rfl)
  · have hw := hw.2 c4
    refine r_aload_n X dX1_seekWays_21 rfl (lv_at hl 0 rfl) ?_
    refine lv_bipush (v := (-2)) hx hb dX1_seekWays_22 (by decide) ?_
    refine lv_iload_n hx hb dX1_seekWays_24 rfl (lv_at hl 1 rfl) ?_
    refine r_callV X hR (c_V (ci := 1) (q := (RX1, TX1, 21)) X hR hl.1 (c_X1_way l g v0 (-2) v1) (lw_V q1260 q1262 qs37 q115 q1263) rfl rfl mh_X1_way rfl (by decide) (by decide) rfl (cat4 (Nat.le_of_ble_eq_true rfl)) dX1_seekWays_25 hw) (fun _ h H locs cells slots hR hw => ?_)
    exact t_X1_seekWays_J28 X  hw hR (lv_sub hl [0, 1] rfl)
theorem c_X1_ways (l : Launch) (g : GT) (v0 : Option Nat) : CT qI l yX1_ways (ws_ yX1_ways cX1_ways 1 (Option.some Jvm.ClassFile.FieldType.int)) 6 g [va_rf v0] (fun K E h => w_X1_ways g v0 K E h) := by
  refine CT_of (lv := [(0, va_rf v0)]) (by decide +kernel) (by simp [lg_sl, cat_rf, cat_int, cat_long]) (by simp [lv_args, cat_rf, cat_int, cat_long]) (fun h0 K E p e s m args below meth c H locs cells slots ls X hxt hmn hw hR hl => ?_)
  have hx := X.hx
  have hb := X.hb
  unfold w_X1_ways at hw
  refine r_aload_n X dX1_ways_0 rfl (lv_at hl 0 rfl) ?_
  refine r_callV X hR (c_V (ci := 1) (q := (RX1, TX1, 21)) X hR hl.1 (c_X1_anew l g v0) (lw_V q455 q457 qs2 q115 q458) rfl rfl mh_X1_anew rfl (by decide) (by decide) rfl (cat4 (Nat.le_of_ble_eq_true rfl)) dX1_ways_1 hw) (fun _ h H locs cells slots hR hw => ?_)
  refine r_aload_n X dX1_ways_4 rfl (lv_at hl 0 rfl) ?_
  refine r_gR X hR fk_X1_102 dX1_ways_5 hw (fun x1 hw => ?_)
  refine r_ifnonnull (tgt := 17) X dX1_ways_8 (by decide) (fun c2 => ?_) (fun c2 => ?_)
  · have hw := hw.1 c2
    refine r_aload_n X dX1_ways_17 rfl (lv_at hl 0 rfl) ?_
    refine lv_iconst (v := (-1)) hx hb dX1_ways_18 (by decide) ?_
    refine r_callV X hR (c_V (ci := 1) (q := (RX1, TX1, 21)) X hR hl.1 (c_X1_seekWays l g v0 (-1)) (lw_V q1256 q1258 qs36 q115 q1259) rfl rfl mh_X1_seekWays rfl (by decide) (by decide) rfl (cat4 (Nat.le_of_ble_eq_true rfl)) dX1_ways_19 hw) (fun _ h H locs cells slots hR hw => ?_)
    refine r_aload_n X dX1_ways_22 rfl (lv_at hl 0 rfl) ?_
    refine r_gI X hR fk_X1_203 dX1_ways_23 hw (fun x3 hw => ?_)
    exact r_iret X hR dX1_ways_26 hw
  · have hw := hw.2 c2
    refine r_aload_n X dX1_ways_11 rfl (lv_at hl 0 rfl) ?_
    refine lv_iconst (v := 1) hx hb dX1_ways_12 (by decide) ?_
    refine r_callI X hR (c_V (ci := 1) (q := (RX1, TX1, 21)) X hR hl.1 (c_X1_no l g v0 1) (lw_V q462 q464 qs3 q115 q465) rfl rfl mh_X1_no rfl (by decide) (by decide) rfl (cat4 (Nat.le_of_ble_eq_true rfl)) dX1_ways_13 hw) (fun x4 h H locs cells slots hR hw => ?_)
    exact r_iret X hR dX1_ways_16 hw
theorem c_X1_wayAt (l : Launch) (g : GT) (v0 : Option Nat) (v1 : Int32) : CT qI l yX1_wayAt (ws_ yX1_wayAt cX1_wayAt 2 (Option.some Jvm.ClassFile.FieldType.int)) 6 g [va_rf v0, .int v1] (fun K E h => w_X1_wayAt g v0 v1 K E h) := by
  refine CT_of (lv := [(0, va_rf v0), (1, .int v1)]) (by decide +kernel) (by simp [lg_sl, cat_rf, cat_int, cat_long]) (by simp [lv_args, cat_rf, cat_int, cat_long]) (fun h0 K E p e s m args below meth c H locs cells slots ls X hxt hmn hw hR hl => ?_)
  have hx := X.hx
  have hb := X.hb
  unfold w_X1_wayAt at hw
  refine r_aload_n X dX1_wayAt_0 rfl (lv_at hl 0 rfl) ?_
  refine r_callV X hR (c_V (ci := 1) (q := (RX1, TX1, 21)) X hR hl.1 (c_X1_anew l g v0) (lw_V q455 q457 qs2 q115 q458) rfl rfl mh_X1_anew rfl (by decide) (by decide) rfl (cat4 (Nat.le_of_ble_eq_true rfl)) dX1_wayAt_1 hw) (fun _ h H locs cells slots hR hw => ?_)
  refine r_aload_n X dX1_wayAt_4 rfl (lv_at hl 0 rfl) ?_
  refine r_gR X hR fk_X1_102 dX1_wayAt_5 hw (fun x1 hw => ?_)
  refine r_ifnonnull (tgt := 17) X dX1_wayAt_8 (by decide) (fun c2 => ?_) (fun c2 => ?_)
  · have hw := hw.1 c2
    refine r_aload_n X dX1_wayAt_17 rfl (lv_at hl 0 rfl) ?_
    refine lv_iload_n hx hb dX1_wayAt_18 rfl (lv_at hl 1 rfl) ?_
    refine r_callV X hR (c_V (ci := 1) (q := (RX1, TX1, 21)) X hR hl.1 (c_X1_seekWays l g v0 v1) (lw_V q1256 q1258 qs36 q115 q1259) rfl rfl mh_X1_seekWays rfl (by decide) (by decide) rfl (cat4 (Nat.le_of_ble_eq_true rfl)) dX1_wayAt_19 hw) (fun _ h H locs cells slots hR hw => ?_)
    refine lv_iload_n hx hb dX1_wayAt_22 rfl (lv_at hl 1 rfl) ?_
    refine lv_iconst (v := 0) hx hb dX1_wayAt_23 (by decide) ?_
    refine r_aload_n X dX1_wayAt_24 rfl (lv_at hl 0 rfl) ?_
    refine r_gI X hR fk_X1_203 dX1_wayAt_25 hw (fun x3 hw => ?_)
    refine lv_iconst (v := 1) hx hb dX1_wayAt_28 (by decide) ?_
    refine lv_isub hx hb dX1_wayAt_29 ?_
    refine r_callI X hR (c_S X hR hl.1 (c_X1_in l g v1 0 (x3 - 1)) (lw_S q459 q460 q115 q461) mh_X1_in rfl (by decide) (by decide) rfl (cat4 (Nat.le_of_ble_eq_true rfl)) dX1_wayAt_30 hw) (fun x4 h H locs cells slots hR hw => ?_)
    refine lv_if_eq (tgt := 43) hx hb dX1_wayAt_33 (by decide) (fun c5 => ?_) (fun c5 => ?_)
    · have hw := hw.1 c5
      refine r_aload_n X dX1_wayAt_43 rfl (lv_at hl 0 rfl) ?_
      refine lv_iconst (v := 1) hx hb dX1_wayAt_44 (by decide) ?_
      refine r_callI X hR (c_V (ci := 1) (q := (RX1, TX1, 21)) X hR hl.1 (c_X1_no l g v0 1) (lw_V q462 q464 qs3 q115 q465) rfl rfl mh_X1_no rfl (by decide) (by decide) rfl (cat4 (Nat.le_of_ble_eq_true rfl)) dX1_wayAt_45 hw) (fun x6 h H locs cells slots hR hw => ?_)
      exact r_iret X hR dX1_wayAt_48 hw
    · have hw := hw.2 c5
      refine r_aload_n X dX1_wayAt_36 rfl (lv_at hl 0 rfl) ?_
      refine r_gI X hR fk_X1_206 dX1_wayAt_37 hw (fun x7 hw => ?_)
      refine lv_goto (tgt := 48) hx hb dX1_wayAt_40 (by decide) ?_
      exact r_iret X hR dX1_wayAt_48 hw
  · have hw := hw.2 c2
    refine r_aload_n X dX1_wayAt_11 rfl (lv_at hl 0 rfl) ?_
    refine lv_iconst (v := 1) hx hb dX1_wayAt_12 (by decide) ?_
    refine r_callI X hR (c_V (ci := 1) (q := (RX1, TX1, 21)) X hR hl.1 (c_X1_no l g v0 1) (lw_V q462 q464 qs3 q115 q465) rfl rfl mh_X1_no rfl (by decide) (by decide) rfl (cat4 (Nat.le_of_ble_eq_true rfl)) dX1_wayAt_13 hw) (fun x8 h H locs cells slots hR hw => ?_)
    exact r_iret X hR dX1_wayAt_16 hw
theorem t_X1_longest_J84 {p : Program} {l : Launch} {e : Env} {s : State} {m : MethodId} {args : Array Value} {below : List Frame} {meth : Method} {c : Code} {g : GT} {h0 : AH} {v0 : Option Nat} {v1 : Int32} {v2 : Int32} {v4 : Int32} {s0 : Int32} {K : Int32 → AH → Prop} {E : Nat → AH → Prop} {L25 : Int32 → Int32 → Int32 → AH → Prop} {h : AH} {H : Heap} {locs : List Loc} {cells slots : Nat} {ls : Array Slot} (X : Cx g h0 p s m args meth c RX1 cX1_longest 6 (Option.some Jvm.ClassFile.FieldType.int)) (k25 : ∀ {v2' : Int32} {v3' : Int32} {v4' : Int32} {h : AH} {H : Heap} {locs : List Loc} {cells slots : Nat} {ls : Array Slot}, L25 v2' v3' v4' h → HS g s h H locs → lv_has ls 6 [(0, va_rf v0), (1, .int v1), (2, .int (v2')), (3, .int (v3')), (4, .int (v4'))] → W p l e (RM 3 h0) s m args below meth c H locs cells slots (MQT below g (qI K) E args s h0) (F0 m 25 ls [])) (hw : w_X1_longest_J84 g v0 v1 v2 v4 s0 K E L25 h) (hR : HS g s h H locs) (hl : lv_has ls 6 [(0, va_rf v0), (1, .int v1), (2, .int v2), (4, .int v4)]) : W p l e (RM 3 h0) s m args below meth c H locs cells slots (MQT below g (qI K) E args s h0) (F0 m 84 ls [.int s0]) := by
  have hx := X.hx
  have hb := X.hb
  unfold w_X1_longest_J84 at hw
  refine lv_istore_n (i := 3) (lv' := [(3, .int s0), (0, va_rf v0), (1, .int v1), (2, .int v2), (4, .int v4)]) hx hb dX1_longest_84 rfl hl (by decide) rfl (fun ls hl => ?_)
  refine lv_iload_n hx hb dX1_longest_85 rfl (lv_at hl 3 rfl) ?_
  refine lv_iload_n hx hb dX1_longest_86 rfl (lv_at hl 0 rfl) ?_
  refine r_max X hl.1 hR q1272 (by decide) (cat4 (Nat.le_of_ble_eq_true rfl)) dX1_longest_87 (fun cells slots => ?_)
  refine r_nmI hw (fun x8 hw => ?_)
  refine lv_istore_n (i := 2) (lv' := [(2, .int x8), (3, .int s0), (0, va_rf v0), (1, .int v1), (4, .int v4)]) hx hb dX1_longest_90 rfl hl (by decide) rfl (fun ls hl => ?_)
  refine r_iinc X (k := 4) (v := (v4 + 1)) (lv' := fun x9 => [(4, .int x9), (2, .int x8), (3, .int s0), (0, va_rf v0), (1, .int v1)]) dX1_longest_91 hl rfl rfl (by decide) hw (fun _ => rfl) (fun x9 hw ls hl => ?_)
  refine lv_goto (tgt := 25) hx hb dX1_longest_94 (by decide) ?_
  exact k25 hw hR (lv_sub hl [3, 4, 1, 2, 0] rfl)
theorem t_X1_longest_J83 {p : Program} {l : Launch} {e : Env} {s : State} {m : MethodId} {args : Array Value} {below : List Frame} {meth : Method} {c : Code} {g : GT} {h0 : AH} {v0 : Option Nat} {v1 : Int32} {v2 : Int32} {v4 : Int32} {K : Int32 → AH → Prop} {E : Nat → AH → Prop} {L25 : Int32 → Int32 → Int32 → AH → Prop} {h : AH} {H : Heap} {locs : List Loc} {cells slots : Nat} {ls : Array Slot} (X : Cx g h0 p s m args meth c RX1 cX1_longest 6 (Option.some Jvm.ClassFile.FieldType.int)) (k25 : ∀ {v2' : Int32} {v3' : Int32} {v4' : Int32} {h : AH} {H : Heap} {locs : List Loc} {cells slots : Nat} {ls : Array Slot}, L25 v2' v3' v4' h → HS g s h H locs → lv_has ls 6 [(0, va_rf v0), (1, .int v1), (2, .int (v2')), (3, .int (v3')), (4, .int (v4'))] → W p l e (RM 3 h0) s m args below meth c H locs cells slots (MQT below g (qI K) E args s h0) (F0 m 25 ls [])) (hw : w_X1_longest_J83 g v0 v1 v2 v4 K E L25 h) (hR : HS g s h H locs) (hl : lv_has ls 6 [(0, va_rf v0), (1, .int v1), (2, .int v2), (4, .int v4)]) : W p l e (RM 3 h0) s m args below meth c H locs cells slots (MQT below g (qI K) E args s h0) (F0 m 83 ls []) := by
  have hx := X.hx
  have hb := X.hb
  unfold w_X1_longest_J83 at hw
  refine lv_iconst (v := 1) hx hb dX1_longest_83 (by decide) ?_
  exact t_X1_longest_J84 X k25 hw hR (lv_sub hl [0, 1, 2, 3] rfl)
theorem t_X1_longest_L25 {p : Program} {l : Launch} {e : Env} {s : State} {m : MethodId} {args : Array Value} {below : List Frame} {meth : Method} {c : Code} {g : GT} {h0 : AH} {v0 : Option Nat} {v1 : Int32} {K : Int32 → AH → Prop} {E : Nat → AH → Prop} (X : Cx g h0 p s m args meth c RX1 cX1_longest 6 (Option.some Jvm.ClassFile.FieldType.int))  : ∀ (n : Nat) {v2 : Int32} {v3 : Int32} {v4 : Int32} {h : AH} {H : Heap} {locs : List Loc} {cells slots : Nat} {ls : Array Slot}, LpN3 (w_X1_longest_L25 g v0 v1 K E) n v2 v3 v4 h → HS g s h H locs → lv_has ls 6 [(0, va_rf v0), (1, .int v1), (2, .int v2), (3, .int v3), (4, .int v4)] → W p l e (RM 3 h0) s m args below meth c H locs cells slots (MQT below g (qI K) E args s h0) (F0 m 25 ls []) := by
  have hx := X.hx
  have hb := X.hb
  intro n
  induction n with
  | zero =>
    intro v2 v3 v4 h H locs cells slots ls hw
    exact hw.elim
  | succ n k25 =>
    intro v2 v3 v4 h H locs cells slots ls hw hR hl
    have hw : w_X1_longest_L25 g v0 v1 K E (LpN3 (w_X1_longest_L25 g v0 v1 K E) n) v2 v3 v4 h := hw
    unfold w_X1_longest_L25 at hw
    refine lv_iload hx hb dX1_longest_25 (lv_at hl 4 rfl) ?_
    refine lv_bipush (v := 40) hx hb dX1_longest_27 (by decide) ?_
    refine lv_icmp_gt (tgt := 97) hx hb dX1_longest_29 (by decide) (fun c3 => ?_) (fun c3 => ?_)
    · have hw := hw.1 c3
      refine lv_iload_n hx hb dX1_longest_97 rfl (lv_at hl 2 rfl) ?_
      exact r_iret X hR dX1_longest_98 hw
    · have hw := hw.2 c3
      refine r_aload_n X dX1_longest_32 rfl (lv_at hl 0 rfl) ?_
      refine r_gR X hR fk_X1_46 dX1_longest_33 hw (fun x4 hw => ?_)
      refine lv_iload_n hx hb dX1_longest_36 rfl (lv_at hl 1 rfl) ?_
      refine lv_iload hx hb dX1_longest_37 (lv_at hl 4 rfl) ?_
      refine r_callI X hR (c_V (ci := 5) (q := (RX5, TX5, 3)) X hR hl.1 (c_X5_title l g x4 v1 v4) (lw_V q1223 q1224 q1225 q122 q1226) rfl rfl mh_X5_title rfl (by decide) (by decide) rfl (cat4 (Nat.le_of_ble_eq_true rfl)) dX1_longest_39 hw) (fun x5 h H locs cells slots hR hw => ?_)
      refine lv_istore (i := 5) (lv' := [(5, .int x5), (0, va_rf v0), (1, .int v1), (2, .int v2), (3, .int v3), (4, .int v4)]) hx hb dX1_longest_42 hl (by decide) rfl (fun ls hl => ?_)
      refine lv_iload hx hb dX1_longest_44 (lv_at hl 0 rfl) ?_
      refine lv_bipush (v := (-2)) hx hb dX1_longest_46 (by decide) ?_
      refine lv_icmp_ne (tgt := 55) hx hb dX1_longest_48 (by decide) (fun c6 => ?_) (fun c6 => ?_)
      · have hw := hw.1 c6
        refine lv_iload hx hb dX1_longest_55 (lv_at hl 5 rfl) ?_
        refine lv_if_le (tgt := 83) hx hb dX1_longest_57 (by decide) (fun c7 => ?_) (fun c7 => ?_)
        · have hw := hw.1 c7
          exact t_X1_longest_J83 X k25 hw hR (lv_sub hl [1, 2, 3, 5] rfl)
        · have hw := hw.2 c7
          refine r_aload_n X dX1_longest_60 rfl (lv_at hl 1 rfl) ?_
          refine r_gR X hR fk_X1_46 dX1_longest_61 hw (fun x10 hw => ?_)
          refine lv_iload_n hx hb dX1_longest_64 rfl (lv_at hl 2 rfl) ?_
          refine lv_iload hx hb dX1_longest_65 (lv_at hl 5 rfl) ?_
          refine lv_iconst (v := 1) hx hb dX1_longest_67 (by decide) ?_
          refine lv_isub hx hb dX1_longest_68 ?_
          refine r_callI X hR (c_V (ci := 5) (q := (RX5, TX5, 3)) X hR hl.1 (c_X5_title l g x10 v1 (v4 - 1)) (lw_V q1223 q1224 q1225 q122 q1226) rfl rfl mh_X5_title rfl (by decide) (by decide) rfl (cat4 (Nat.le_of_ble_eq_true rfl)) dX1_longest_69 hw) (fun x11 h H locs cells slots hR hw => ?_)
          refine lv_iload hx hb dX1_longest_72 (lv_at hl 0 rfl) ?_
          refine lv_icmp_ne (tgt := 83) hx hb dX1_longest_74 (by decide) (fun c12 => ?_) (fun c12 => ?_)
          · have hw := hw.1 c12
            exact t_X1_longest_J83 X k25 hw hR (lv_sub hl [1, 2, 3, 5] rfl)
          · have hw := hw.2 c12
            refine lv_iload_n hx hb dX1_longest_77 rfl (lv_at hl 4 rfl) ?_
            refine lv_iconst (v := 1) hx hb dX1_longest_78 (by decide) ?_
            refine lv_iadd hx hb dX1_longest_79 ?_
            refine lv_goto (tgt := 84) hx hb dX1_longest_80 (by decide) ?_
            exact t_X1_longest_J84 X k25 hw hR (lv_sub hl [1, 2, 3, 5] rfl)
      · have hw := hw.2 c6
        refine lv_iconst (v := 0) hx hb dX1_longest_51 (by decide) ?_
        refine lv_goto (tgt := 84) hx hb dX1_longest_52 (by decide) ?_
        exact t_X1_longest_J84 X k25 hw hR (lv_sub hl [1, 2, 3, 5] rfl)
theorem c_X1_longest (l : Launch) (g : GT) (v0 : Option Nat) (v1 : Int32) : CT qI l yX1_longest (ws_ yX1_longest cX1_longest 6 (Option.some Jvm.ClassFile.FieldType.int)) 3 g [va_rf v0, .int v1] (fun K E h => w_X1_longest g v0 v1 K E h) := by
  refine CT_of (lv := [(0, va_rf v0), (1, .int v1)]) (by decide +kernel) (by simp [lg_sl, cat_rf, cat_int, cat_long]) (by simp [lv_args, cat_rf, cat_int, cat_long]) (fun h0 K E p e s m args below meth c H locs cells slots ls X hxt hmn hw hR hl => ?_)
  have hx := X.hx
  have hb := X.hb
  unfold w_X1_longest at hw
  refine r_aload_n X dX1_longest_0 rfl (lv_at hl 0 rfl) ?_
  refine r_callV X hR (c_V (ci := 1) (q := (RX1, TX1, 21)) X hR hl.1 (c_X1_anew l g v0) (lw_V q455 q457 qs2 q115 q458) rfl rfl mh_X1_anew rfl (by decide) (by decide) rfl (cat4 (Nat.le_of_ble_eq_true rfl)) dX1_longest_1 hw) (fun _ h H locs cells slots hR hw => ?_)
  refine r_aload_n X dX1_longest_4 rfl (lv_at hl 0 rfl) ?_
  refine lv_iload_n hx hb dX1_longest_5 rfl (lv_at hl 1 rfl) ?_
  refine r_callI X hR (c_V (ci := 1) (q := (RX1, TX1, 21)) X hR hl.1 (c_X1_isUmbrella l g v0 v1) (lw_V q1142 q1144 qs32 q115 q1145) rfl rfl mh_X1_isUmbrella rfl (by decide) (by decide) rfl (cat4 (Nat.le_of_ble_eq_true rfl)) dX1_longest_6 hw) (fun x1 h H locs cells slots hR hw => ?_)
  refine lv_if_ne (tgt := 18) hx hb dX1_longest_9 (by decide) (fun c2 => ?_) (fun c2 => ?_)
  · have hw := hw.1 c2
    refine lv_iconst (v := 0) hx hb dX1_longest_18 (by decide) ?_
    refine lv_istore_n (i := 2) (lv' := [(2, .int 0), (0, va_rf v0), (1, .int v1)]) hx hb dX1_longest_19 rfl hl (by decide) rfl (fun ls hl => ?_)
    refine lv_iconst (v := 0) hx hb dX1_longest_20 (by decide) ?_
    refine lv_istore_n (i := 3) (lv' := [(3, .int 0), (2, .int 0), (0, va_rf v0), (1, .int v1)]) hx hb dX1_longest_21 rfl hl (by decide) rfl (fun ls hl => ?_)
    refine lv_iconst (v := 0) hx hb dX1_longest_22 (by decide) ?_
    refine lv_istore (i := 4) (lv' := [(4, .int 0), (3, .int 0), (2, .int 0), (0, va_rf v0), (1, .int v1)]) hx hb dX1_longest_23 hl (by decide) rfl (fun ls hl => ?_)
    obtain ⟨n, hw⟩ := hw
    exact t_X1_longest_L25 X  n hw hR (lv_sub hl [3, 4, 2, 1, 0] rfl)
  · have hw := hw.2 c2
    refine r_aload_n X dX1_longest_12 rfl (lv_at hl 0 rfl) ?_
    refine lv_iconst (v := 1) hx hb dX1_longest_13 (by decide) ?_
    refine r_callI X hR (c_V (ci := 1) (q := (RX1, TX1, 21)) X hR hl.1 (c_X1_no l g v0 1) (lw_V q462 q464 qs3 q115 q465) rfl rfl mh_X1_no rfl (by decide) (by decide) rfl (cat4 (Nat.le_of_ble_eq_true rfl)) dX1_longest_14 hw) (fun x13 h H locs cells slots hR hw => ?_)
    exact r_iret X hR dX1_longest_17 hw
theorem t_X1_worstDay_J46 {p : Program} {l : Launch} {e : Env} {s : State} {m : MethodId} {args : Array Value} {below : List Frame} {meth : Method} {c : Code} {g : GT} {h0 : AH} {v0 : Option Nat} {v1 : Int32} {v2 : Int32} {K : Int32 → AH → Prop} {E : Nat → AH → Prop} {L21 : Int32 → Int32 → AH → Prop} {h : AH} {H : Heap} {locs : List Loc} {cells slots : Nat} {ls : Array Slot} (X : Cx g h0 p s m args meth c RX1 cX1_worstDay 3 (Option.some Jvm.ClassFile.FieldType.int)) (k21 : ∀ {v1' : Int32} {v2' : Int32} {h : AH} {H : Heap} {locs : List Loc} {cells slots : Nat} {ls : Array Slot}, L21 v1' v2' h → HS g s h H locs → lv_has ls 3 [(0, va_rf v0), (1, .int (v1')), (2, .int (v2'))] → W p l e (RM 3 h0) s m args below meth c H locs cells slots (MQT below g (qI K) E args s h0) (F0 m 21 ls [])) (hw : w_X1_worstDay_J46 g v0 v1 v2 K E L21 h) (hR : HS g s h H locs) (hl : lv_has ls 3 [(0, va_rf v0), (1, .int v1), (2, .int v2)]) : W p l e (RM 3 h0) s m args below meth c H locs cells slots (MQT below g (qI K) E args s h0) (F0 m 46 ls []) := by
  have hx := X.hx
  have hb := X.hb
  unfold w_X1_worstDay_J46 at hw
  refine r_iinc X (k := 2) (v := (v2 + 1)) (lv' := fun x7 => [(2, .int x7), (0, va_rf v0), (1, .int v1)]) dX1_worstDay_46 hl rfl rfl (by decide) hw (fun _ => rfl) (fun x7 hw ls hl => ?_)
  refine lv_goto (tgt := 21) hx hb dX1_worstDay_49 (by decide) ?_
  exact k21 hw hR (lv_sub hl [1, 2, 0] rfl)
theorem t_X1_worstDay_L21 {p : Program} {l : Launch} {e : Env} {s : State} {m : MethodId} {args : Array Value} {below : List Frame} {meth : Method} {c : Code} {g : GT} {h0 : AH} {v0 : Option Nat} {K : Int32 → AH → Prop} {E : Nat → AH → Prop} (X : Cx g h0 p s m args meth c RX1 cX1_worstDay 3 (Option.some Jvm.ClassFile.FieldType.int))  : ∀ (n : Nat) {v1 : Int32} {v2 : Int32} {h : AH} {H : Heap} {locs : List Loc} {cells slots : Nat} {ls : Array Slot}, LpN2 (w_X1_worstDay_L21 g v0 K E) n v1 v2 h → HS g s h H locs → lv_has ls 3 [(0, va_rf v0), (1, .int v1), (2, .int v2)] → W p l e (RM 3 h0) s m args below meth c H locs cells slots (MQT below g (qI K) E args s h0) (F0 m 21 ls []) := by
  have hx := X.hx
  have hb := X.hb
  intro n
  induction n with
  | zero =>
    intro v1 v2 h H locs cells slots ls hw
    exact hw.elim
  | succ n k21 =>
    intro v1 v2 h H locs cells slots ls hw hR hl
    have hw : w_X1_worstDay_L21 g v0 K E (LpN2 (w_X1_worstDay_L21 g v0 K E) n) v1 v2 h := hw
    unfold w_X1_worstDay_L21 at hw
    refine lv_iload_n hx hb dX1_worstDay_21 rfl (lv_at hl 2 rfl) ?_
    refine lv_bipush (v := 40) hx hb dX1_worstDay_22 (by decide) ?_
    refine lv_icmp_gt (tgt := 52) hx hb dX1_worstDay_24 (by decide) (fun c3 => ?_) (fun c3 => ?_)
    · have hw := hw.1 c3
      refine lv_iload_n hx hb dX1_worstDay_52 rfl (lv_at hl 1 rfl) ?_
      exact r_iret X hR dX1_worstDay_53 hw
    · have hw := hw.2 c3
      refine r_aload_n X dX1_worstDay_27 rfl (lv_at hl 0 rfl) ?_
      refine lv_bipush (v := (-2)) hx hb dX1_worstDay_28 (by decide) ?_
      refine lv_iload_n hx hb dX1_worstDay_30 rfl (lv_at hl 2 rfl) ?_
      refine r_callI X hR (c_V (ci := 1) (q := (RX1, TX1, 21)) X hR hl.1 (c_X1_landsBy l g v0 (-2) v2) (lw_V q1231 q1233 qs35 q115 q1234) rfl rfl mh_X1_landsBy rfl (by decide) (by decide) rfl (cat4 (Nat.le_of_ble_eq_true rfl)) dX1_worstDay_31 hw) (fun x4 h H locs cells slots hR hw => ?_)
      refine r_aload_n X dX1_worstDay_34 rfl (lv_at hl 0 rfl) ?_
      refine lv_bipush (v := (-2)) hx hb dX1_worstDay_35 (by decide) ?_
      refine lv_iload_n hx hb dX1_worstDay_37 rfl (lv_at hl 1 rfl) ?_
      refine r_callI X hR (c_V (ci := 1) (q := (RX1, TX1, 21)) X hR hl.1 (c_X1_landsBy l g v0 (-2) v1) (lw_V q1231 q1233 qs35 q115 q1234) rfl rfl mh_X1_landsBy rfl (by decide) (by decide) rfl (cat4 (Nat.le_of_ble_eq_true rfl)) dX1_worstDay_38 hw) (fun x5 h H locs cells slots hR hw => ?_)
      refine lv_icmp_le (tgt := 46) hx hb dX1_worstDay_41 (by decide) (fun c6 => ?_) (fun c6 => ?_)
      · have hw := hw.1 c6
        exact t_X1_worstDay_J46 X k21 hw hR (lv_sub hl [0, 1, 2] rfl)
      · have hw := hw.2 c6
        refine lv_iload_n hx hb dX1_worstDay_44 rfl (lv_at hl 2 rfl) ?_
        refine lv_istore_n (i := 1) (lv' := [(1, .int v2), (0, va_rf v0), (2, .int v2)]) hx hb dX1_worstDay_45 rfl hl (by decide) (by simp [cat_rf, cat_int, cat_long]) (fun ls hl => ?_)
        exact t_X1_worstDay_J46 X k21 hw hR (lv_sub hl [1, 0, 2] rfl)
theorem c_X1_worstDay (l : Launch) (g : GT) (v0 : Option Nat) : CT qI l yX1_worstDay (ws_ yX1_worstDay cX1_worstDay 3 (Option.some Jvm.ClassFile.FieldType.int)) 3 g [va_rf v0] (fun K E h => w_X1_worstDay g v0 K E h) := by
  refine CT_of (lv := [(0, va_rf v0)]) (by decide +kernel) (by simp [lg_sl, cat_rf, cat_int, cat_long]) (by simp [lv_args, cat_rf, cat_int, cat_long]) (fun h0 K E p e s m args below meth c H locs cells slots ls X hxt hmn hw hR hl => ?_)
  have hx := X.hx
  have hb := X.hb
  unfold w_X1_worstDay at hw
  refine r_aload_n X dX1_worstDay_0 rfl (lv_at hl 0 rfl) ?_
  refine r_callV X hR (c_V (ci := 1) (q := (RX1, TX1, 21)) X hR hl.1 (c_X1_anew l g v0) (lw_V q455 q457 qs2 q115 q458) rfl rfl mh_X1_anew rfl (by decide) (by decide) rfl (cat4 (Nat.le_of_ble_eq_true rfl)) dX1_worstDay_1 hw) (fun _ h H locs cells slots hR hw => ?_)
  refine r_aload_n X dX1_worstDay_4 rfl (lv_at hl 0 rfl) ?_
  refine r_gR X hR fk_X1_102 dX1_worstDay_5 hw (fun x1 hw => ?_)
  refine r_ifnonnull (tgt := 17) X dX1_worstDay_8 (by decide) (fun c2 => ?_) (fun c2 => ?_)
  · have hw := hw.1 c2
    refine lv_iconst (v := 0) hx hb dX1_worstDay_17 (by decide) ?_
    refine lv_istore_n (i := 1) (lv' := [(1, .int 0), (0, va_rf v0)]) hx hb dX1_worstDay_18 rfl hl (by decide) (by simp [cat_rf, cat_int, cat_long]) (fun ls hl => ?_)
    refine lv_iconst (v := 1) hx hb dX1_worstDay_19 (by decide) ?_
    refine lv_istore_n (i := 2) (lv' := [(2, .int 1), (1, .int 0), (0, va_rf v0)]) hx hb dX1_worstDay_20 rfl hl (by decide) rfl (fun ls hl => ?_)
    obtain ⟨n, hw⟩ := hw
    exact t_X1_worstDay_L21 X  n hw hR (lv_sub hl [2, 1, 0] rfl)
  · have hw := hw.2 c2
    refine r_aload_n X dX1_worstDay_11 rfl (lv_at hl 0 rfl) ?_
    refine lv_iconst (v := 1) hx hb dX1_worstDay_12 (by decide) ?_
    refine r_callI X hR (c_V (ci := 1) (q := (RX1, TX1, 21)) X hR hl.1 (c_X1_no l g v0 1) (lw_V q462 q464 qs3 q115 q465) rfl rfl mh_X1_no rfl (by decide) (by decide) rfl (cat4 (Nat.le_of_ble_eq_true rfl)) dX1_worstDay_13 hw) (fun x8 h H locs cells slots hR hw => ?_)
    exact r_iret X hR dX1_worstDay_16 hw
theorem t_X1_owing_J25 {p : Program} {l : Launch} {e : Env} {s : State} {m : MethodId} {args : Array Value} {below : List Frame} {meth : Method} {c : Code} {g : GT} {h0 : AH} {v0 : Option Nat} {K : Int32 → AH → Prop} {E : Nat → AH → Prop} {h : AH} {H : Heap} {locs : List Loc} {cells slots : Nat} {ls : Array Slot} (X : Cx g h0 p s m args meth c RX1 cX1_owing 5 (Option.some Jvm.ClassFile.FieldType.int))  (hw : w_X1_owing_J25 g v0 K E h) (hR : HS g s h H locs) (hl : lv_has ls 5 [(0, va_rf v0)]) : W p l e (RM 3 h0) s m args below meth c H locs cells slots (MQT below g (qI K) E args s h0) (F0 m 25 ls []) := by
  have hx := X.hx
  have hb := X.hb
  unfold w_X1_owing_J25 at hw
  refine r_aload_n X dX1_owing_25 rfl (lv_at hl 0 rfl) ?_
  refine lv_iconst (v := 1) hx hb dX1_owing_26 (by decide) ?_
  refine r_callI X hR (c_V (ci := 1) (q := (RX1, TX1, 21)) X hR hl.1 (c_X1_no l g v0 1) (lw_V q462 q464 qs3 q115 q465) rfl rfl mh_X1_no rfl (by decide) (by decide) rfl (cat4 (Nat.le_of_ble_eq_true rfl)) dX1_owing_27 hw) (fun x3 h H locs cells slots hR hw => ?_)
  exact r_iret X hR dX1_owing_30 hw
theorem t_X1_owing_J85 {p : Program} {l : Launch} {e : Env} {s : State} {m : MethodId} {args : Array Value} {below : List Frame} {meth : Method} {c : Code} {g : GT} {h0 : AH} {v0 : Option Nat} {v1 : Int32} {v2 : Int32} {v4 : Int32} {s0 : Int32} {s1 : Int32} {K : Int32 → AH → Prop} {E : Nat → AH → Prop} {L36 : Int32 → Int32 → AH → Prop} {h : AH} {H : Heap} {locs : List Loc} {cells slots : Nat} {ls : Array Slot} (X : Cx g h0 p s m args meth c RX1 cX1_owing 5 (Option.some Jvm.ClassFile.FieldType.int)) (k36 : ∀ {v3' : Int32} {v4' : Int32} {h : AH} {H : Heap} {locs : List Loc} {cells slots : Nat} {ls : Array Slot}, L36 v3' v4' h → HS g s h H locs → lv_has ls 5 [(0, va_rf v0), (1, .int v1), (2, .int v2), (3, .int (v3')), (4, .int (v4'))] → W p l e (RM 3 h0) s m args below meth c H locs cells slots (MQT below g (qI K) E args s h0) (F0 m 36 ls [])) (hw : w_X1_owing_J85 g v0 v1 v2 v4 s0 s1 K E L36 h) (hR : HS g s h H locs) (hl : lv_has ls 5 [(0, va_rf v0), (1, .int v1), (2, .int v2), (4, .int v4)]) : W p l e (RM 3 h0) s m args below meth c H locs cells slots (MQT below g (qI K) E args s h0) (F0 m 85 ls [.int s0, .int s1]) := by
  have hx := X.hx
  have hb := X.hb
  unfold w_X1_owing_J85 at hw
  refine lv_ior hx hb dX1_owing_85 ?_
  refine r_nmI hw (fun x14 hw => ?_)
  refine lv_istore_n (i := 3) (lv' := [(3, .int x14), (0, va_rf v0), (1, .int v1), (2, .int v2), (4, .int v4)]) hx hb dX1_owing_86 rfl hl (by decide) rfl (fun ls hl => ?_)
  refine r_iinc X (k := 4) (v := (v4 + 1)) (lv' := fun x15 => [(4, .int x15), (3, .int x14), (0, va_rf v0), (1, .int v1), (2, .int v2)]) dX1_owing_87 hl rfl rfl (by decide) hw (fun _ => rfl) (fun x15 hw ls hl => ?_)
  refine lv_goto (tgt := 36) hx hb dX1_owing_90 (by decide) ?_
  exact k36 hw hR (lv_sub hl [2, 3, 4, 1, 0] rfl)
theorem t_X1_owing_J84 {p : Program} {l : Launch} {e : Env} {s : State} {m : MethodId} {args : Array Value} {below : List Frame} {meth : Method} {c : Code} {g : GT} {h0 : AH} {v0 : Option Nat} {v1 : Int32} {v2 : Int32} {v4 : Int32} {s0 : Int32} {K : Int32 → AH → Prop} {E : Nat → AH → Prop} {L36 : Int32 → Int32 → AH → Prop} {h : AH} {H : Heap} {locs : List Loc} {cells slots : Nat} {ls : Array Slot} (X : Cx g h0 p s m args meth c RX1 cX1_owing 5 (Option.some Jvm.ClassFile.FieldType.int)) (k36 : ∀ {v3' : Int32} {v4' : Int32} {h : AH} {H : Heap} {locs : List Loc} {cells slots : Nat} {ls : Array Slot}, L36 v3' v4' h → HS g s h H locs → lv_has ls 5 [(0, va_rf v0), (1, .int v1), (2, .int v2), (3, .int (v3')), (4, .int (v4'))] → W p l e (RM 3 h0) s m args below meth c H locs cells slots (MQT below g (qI K) E args s h0) (F0 m 36 ls [])) (hw : w_X1_owing_J84 g v0 v1 v2 v4 s0 K E L36 h) (hR : HS g s h H locs) (hl : lv_has ls 5 [(0, va_rf v0), (1, .int v1), (2, .int v2), (4, .int v4)]) : W p l e (RM 3 h0) s m args below meth c H locs cells slots (MQT below g (qI K) E args s h0) (F0 m 84 ls [.int s0]) := by
  have hx := X.hx
  have hb := X.hb
  unfold w_X1_owing_J84 at hw
  refine lv_iconst (v := 0) hx hb dX1_owing_84 (by decide) ?_
  exact t_X1_owing_J85 X k36 hw hR (lv_sub hl [0, 1, 2, 3] rfl)
theorem t_X1_owing_L36 {p : Program} {l : Launch} {e : Env} {s : State} {m : MethodId} {args : Array Value} {below : List Frame} {meth : Method} {c : Code} {g : GT} {h0 : AH} {v0 : Option Nat} {v1 : Int32} {v2 : Int32} {K : Int32 → AH → Prop} {E : Nat → AH → Prop} (X : Cx g h0 p s m args meth c RX1 cX1_owing 5 (Option.some Jvm.ClassFile.FieldType.int))  : ∀ (n : Nat) {v3 : Int32} {v4 : Int32} {h : AH} {H : Heap} {locs : List Loc} {cells slots : Nat} {ls : Array Slot}, LpN2 (w_X1_owing_L36 g v0 v1 v2 K E) n v3 v4 h → HS g s h H locs → lv_has ls 5 [(0, va_rf v0), (1, .int v1), (2, .int v2), (3, .int v3), (4, .int v4)] → W p l e (RM 3 h0) s m args below meth c H locs cells slots (MQT below g (qI K) E args s h0) (F0 m 36 ls []) := by
  have hx := X.hx
  have hb := X.hb
  intro n
  induction n with
  | zero =>
    intro v3 v4 h H locs cells slots ls hw
    exact hw.elim
  | succ n k36 =>
    intro v3 v4 h H locs cells slots ls hw hR hl
    have hw : w_X1_owing_L36 g v0 v1 v2 K E (LpN2 (w_X1_owing_L36 g v0 v1 v2 K E) n) v3 v4 h := hw
    unfold w_X1_owing_L36 at hw
    refine lv_iload hx hb dX1_owing_36 (lv_at hl 4 rfl) ?_
    refine r_aload_n X dX1_owing_38 rfl (lv_at hl 0 rfl) ?_
    refine r_gR X hR fk_X1_102 dX1_owing_39 hw (fun x7 hw => ?_)
    refine r_gI X hR fk_X1_126 dX1_owing_42 hw (fun x8 hw => ?_)
    refine lv_icmp_ge (tgt := 93) hx hb dX1_owing_45 (by decide) (fun c9 => ?_) (fun c9 => ?_)
    · have hw := hw.1 c9
      refine lv_iload_n hx hb dX1_owing_93 rfl (lv_at hl 3 rfl) ?_
      exact r_iret X hR dX1_owing_94 hw
    · have hw := hw.2 c9
      refine lv_iload_n hx hb dX1_owing_48 rfl (lv_at hl 3 rfl) ?_
      refine r_aload_n X dX1_owing_49 rfl (lv_at hl 0 rfl) ?_
      refine r_gR X hR fk_X1_33 dX1_owing_50 hw (fun x10 hw => ?_)
      refine r_gR X hR fk_X1_158 dX1_owing_53 hw (fun x11 hw => ?_)
      refine lv_iload hx hb dX1_owing_56 (lv_at hl 4 rfl) ?_
      refine r_iald X hR dX1_owing_58 hw (fun x12 hw => ?_)
      refine lv_iload_n hx hb dX1_owing_59 rfl (lv_at hl 1 rfl) ?_
      refine lv_icmp_ne (tgt := 84) hx hb dX1_owing_60 (by decide) (fun c13 => ?_) (fun c13 => ?_)
      · have hw := hw.1 c13
        exact t_X1_owing_J84 X k36 hw hR (lv_sub hl [0, 1, 2, 4] rfl)
      · have hw := hw.2 c13
        refine r_aload_n X dX1_owing_63 rfl (lv_at hl 0 rfl) ?_
        refine r_gR X hR fk_X1_33 dX1_owing_64 hw (fun x16 hw => ?_)
        refine r_gR X hR fk_X1_154 dX1_owing_67 hw (fun x17 hw => ?_)
        refine lv_iload hx hb dX1_owing_70 (lv_at hl 4 rfl) ?_
        refine r_iald X hR dX1_owing_72 hw (fun x18 hw => ?_)
        refine lv_iload_n hx hb dX1_owing_73 rfl (lv_at hl 2 rfl) ?_
        refine lv_icmp_ne (tgt := 84) hx hb dX1_owing_74 (by decide) (fun c19 => ?_) (fun c19 => ?_)
        · have hw := hw.1 c19
          exact t_X1_owing_J84 X k36 hw hR (lv_sub hl [0, 1, 2, 4] rfl)
        · have hw := hw.2 c19
          refine lv_iconst (v := 1) hx hb dX1_owing_77 (by decide) ?_
          refine lv_iload hx hb dX1_owing_78 (lv_at hl 4 rfl) ?_
          refine lv_ishl hx hb dX1_owing_80 ?_
          refine lv_goto (tgt := 85) hx hb dX1_owing_81 (by decide) ?_
          exact t_X1_owing_J85 X k36 hw hR (lv_sub hl [0, 1, 2, 4] rfl)
theorem c_X1_owing (l : Launch) (g : GT) (v0 : Option Nat) (v1 : Int32) (v2 : Int32) : CT qI l yX1_owing (ws_ yX1_owing cX1_owing 5 (Option.some Jvm.ClassFile.FieldType.int)) 3 g [va_rf v0, .int v1, .int v2] (fun K E h => w_X1_owing g v0 v1 v2 K E h) := by
  refine CT_of (lv := [(0, va_rf v0), (1, .int v1), (2, .int v2)]) (by decide +kernel) (by simp [lg_sl, cat_rf, cat_int, cat_long]) (by simp [lv_args, cat_rf, cat_int, cat_long]) (fun h0 K E p e s m args below meth c H locs cells slots ls X hxt hmn hw hR hl => ?_)
  have hx := X.hx
  have hb := X.hb
  unfold w_X1_owing at hw
  refine r_aload_n X dX1_owing_0 rfl (lv_at hl 0 rfl) ?_
  refine r_callV X hR (c_V (ci := 1) (q := (RX1, TX1, 21)) X hR hl.1 (c_X1_anew l g v0) (lw_V q455 q457 qs2 q115 q458) rfl rfl mh_X1_anew rfl (by decide) (by decide) rfl (cat4 (Nat.le_of_ble_eq_true rfl)) dX1_owing_1 hw) (fun _ h H locs cells slots hR hw => ?_)
  refine r_aload_n X dX1_owing_4 rfl (lv_at hl 0 rfl) ?_
  refine lv_iload_n hx hb dX1_owing_5 rfl (lv_at hl 1 rfl) ?_
  refine r_callI X hR (c_V (ci := 1) (q := (RX1, TX1, 21)) X hR hl.1 (c_X1_isPerson l g v0 v1) (lw_V q1165 q1167 qs33 q115 q1168) rfl rfl mh_X1_isPerson rfl (by decide) (by decide) rfl (cat4 (Nat.le_of_ble_eq_true rfl)) dX1_owing_6 hw) (fun x1 h H locs cells slots hR hw => ?_)
  refine lv_if_eq (tgt := 25) hx hb dX1_owing_9 (by decide) (fun c2 => ?_) (fun c2 => ?_)
  · have hw := hw.1 c2
    exact t_X1_owing_J25 X  hw hR (lv_sub hl [0] rfl)
  · have hw := hw.2 c2
    refine r_aload_n X dX1_owing_12 rfl (lv_at hl 0 rfl) ?_
    refine lv_iload_n hx hb dX1_owing_13 rfl (lv_at hl 2 rfl) ?_
    refine r_callI X hR (c_V (ci := 1) (q := (RX1, TX1, 21)) X hR hl.1 (c_X1_isPerson l g v0 v2) (lw_V q1165 q1167 qs33 q115 q1168) rfl rfl mh_X1_isPerson rfl (by decide) (by decide) rfl (cat4 (Nat.le_of_ble_eq_true rfl)) dX1_owing_14 hw) (fun x4 h H locs cells slots hR hw => ?_)
    refine lv_if_eq (tgt := 25) hx hb dX1_owing_17 (by decide) (fun c5 => ?_) (fun c5 => ?_)
    · have hw := hw.1 c5
      exact t_X1_owing_J25 X  hw hR (lv_sub hl [0] rfl)
    · have hw := hw.2 c5
      refine lv_iload_n hx hb dX1_owing_20 rfl (lv_at hl 1 rfl) ?_
      refine lv_iload_n hx hb dX1_owing_21 rfl (lv_at hl 2 rfl) ?_
      refine lv_icmp_ne (tgt := 31) hx hb dX1_owing_22 (by decide) (fun c6 => ?_) (fun c6 => ?_)
      · have hw := hw.1 c6
        refine lv_iconst (v := 0) hx hb dX1_owing_31 (by decide) ?_
        refine lv_istore_n (i := 3) (lv' := [(3, .int 0), (0, va_rf v0), (1, .int v1), (2, .int v2)]) hx hb dX1_owing_32 rfl hl (by decide) rfl (fun ls hl => ?_)
        refine lv_iconst (v := 0) hx hb dX1_owing_33 (by decide) ?_
        refine lv_istore (i := 4) (lv' := [(4, .int 0), (3, .int 0), (0, va_rf v0), (1, .int v1), (2, .int v2)]) hx hb dX1_owing_34 hl (by decide) rfl (fun ls hl => ?_)
        obtain ⟨n, hw⟩ := hw
        exact t_X1_owing_L36 X  n hw hR (lv_sub hl [2, 3, 4, 1, 0] rfl)
      · have hw := hw.2 c6
        exact t_X1_owing_J25 X  hw hR (lv_sub hl [0] rfl)
theorem c_X4_become (l : Launch) (g : GT) (v0 : Option Nat) (v1 : Option Nat) : CT qV l yX4_become (ws_ yX4_become cX4_become 2 none) 1 g [va_rf v0, va_rf v1] (fun K E h => w_X4_become g v0 v1 K E h) := by
  refine CT_of (lv := [(0, va_rf v0), (1, va_rf v1)]) (by decide +kernel) (by simp [lg_sl, cat_rf, cat_int, cat_long]) (by simp [lv_args, cat_rf, cat_int, cat_long]) (fun h0 K E p e s m args below meth c H locs cells slots ls X hxt hmn hw hR hl => ?_)
  have hx := X.hx
  have hb := X.hb
  unfold w_X4_become at hw
  refine r_aload_n X dX4_become_0 rfl (lv_at hl 0 rfl) ?_
  refine r_aload_n X dX4_become_1 rfl (lv_at hl 1 rfl) ?_
  refine r_gR X hR fk_X4_18 dX4_become_2 hw (fun x1 hw => ?_)
  refine r_put X hR fp_X4_18 (Or.inl fn_X4_18) (nf_obj _ _) dX4_become_5 hw (fun H locs h hR hw => ?_)
  refine r_aload_n X dX4_become_8 rfl (lv_at hl 0 rfl) ?_
  refine r_aload_n X dX4_become_9 rfl (lv_at hl 1 rfl) ?_
  refine r_gI X hR fk_X4_22 dX4_become_10 hw (fun x2 hw => ?_)
  refine r_put X hR fp_X4_22 (Or.inl fn_X4_22) (nf_int _) dX4_become_13 hw (fun H locs h hR hw => ?_)
  refine r_aload_n X dX4_become_16 rfl (lv_at hl 1 rfl) ?_
  refine r_gR X hR fk_X4_9 dX4_become_17 hw (fun x3 hw => ?_)
  refine lv_iconst (v := 0) hx hb dX4_become_20 (by decide) ?_
  refine r_aload_n X dX4_become_21 rfl (lv_at hl 0 rfl) ?_
  refine r_gR X hR fk_X4_9 dX4_become_22 hw (fun x4 hw => ?_)
  refine lv_iconst (v := 0) hx hb dX4_become_25 (by decide) ?_
  refine lv_iconst (v := 5) hx hb dX4_become_26 (by decide) ?_
  refine r_copy X hl.1 hR q1291 q1129 q1128 q149 (by decide) (cat4 (Nat.le_of_ble_eq_true rfl)) dX4_become_27 hw (fun H locs h hR hw => ?_)
  refine r_aload_n X dX4_become_30 rfl (lv_at hl 1 rfl) ?_
  refine r_gR X hR fk_X4_15 dX4_become_31 hw (fun x5 hw => ?_)
  refine lv_iconst (v := 0) hx hb dX4_become_34 (by decide) ?_
  refine r_aload_n X dX4_become_35 rfl (lv_at hl 0 rfl) ?_
  refine r_gR X hR fk_X4_15 dX4_become_36 hw (fun x6 hw => ?_)
  refine lv_iconst (v := 0) hx hb dX4_become_39 (by decide) ?_
  refine lv_iconst (v := 5) hx hb dX4_become_40 (by decide) ?_
  refine r_copy X hl.1 hR q1291 q1129 q1128 q149 (by decide) (cat4 (Nat.le_of_ble_eq_true rfl)) dX4_become_41 hw (fun H locs h hR hw => ?_)
  exact r_vret X hR rfl dX4_become_44 hw
theorem c_X1_change (l : Launch) (g : GT) (v0 : Option Nat) (v1 : Int32) (v2 : Int32) : CT qI l yX1_change (ws_ yX1_change cX1_change 3 (Option.some Jvm.ClassFile.FieldType.int)) 4 g [va_rf v0, .int v1, .int v2] (fun K E h => w_X1_change g v0 v1 v2 K E h) := by
  refine CT_of (lv := [(0, va_rf v0), (1, .int v1), (2, .int v2)]) (by decide +kernel) (by simp [lg_sl, cat_rf, cat_int, cat_long]) (by simp [lv_args, cat_rf, cat_int, cat_long]) (fun h0 K E p e s m args below meth c H locs cells slots ls X hxt hmn hw hR hl => ?_)
  have hx := X.hx
  have hb := X.hb
  unfold w_X1_change at hw
  refine r_aload_n X dX1_change_0 rfl (lv_at hl 0 rfl) ?_
  refine r_callV X hR (c_V (ci := 1) (q := (RX1, TX1, 21)) X hR hl.1 (c_X1_anew l g v0) (lw_V q455 q457 qs2 q115 q458) rfl rfl mh_X1_anew rfl (by decide) (by decide) rfl (cat4 (Nat.le_of_ble_eq_true rfl)) dX1_change_1 hw) (fun _ h H locs cells slots hR hw => ?_)
  refine r_aload_n X dX1_change_4 rfl (lv_at hl 0 rfl) ?_
  refine lv_iload_n hx hb dX1_change_5 rfl (lv_at hl 1 rfl) ?_
  refine r_callI X hR (c_V (ci := 1) (q := (RX1, TX1, 21)) X hR hl.1 (c_X1_isPerson l g v0 v1) (lw_V q1165 q1167 qs33 q115 q1168) rfl rfl mh_X1_isPerson rfl (by decide) (by decide) rfl (cat4 (Nat.le_of_ble_eq_true rfl)) dX1_change_6 hw) (fun x1 h H locs cells slots hR hw => ?_)
  refine lv_if_ne (tgt := 21) hx hb dX1_change_9 (by decide) (fun c2 => ?_) (fun c2 => ?_)
  · have hw := hw.1 c2
    refine r_aload_n X dX1_change_21 rfl (lv_at hl 0 rfl) ?_
    refine r_gR X hR fk_X1_40 dX1_change_22 hw (fun x3 hw => ?_)
    refine r_aload_n X dX1_change_25 rfl (lv_at hl 0 rfl) ?_
    refine r_gR X hR fk_X1_33 dX1_change_26 hw (fun x4 hw => ?_)
    refine r_callV X hR (c_V (ci := 4) (q := (RX4, TX4, 4)) X hR hl.1 (c_X4_become l g x3 x4) (lw_V q1287 q1288 q1289 q121 q1290) rfl rfl mh_X4_become rfl (by decide) (by decide) rfl (cat4 (Nat.le_of_ble_eq_true rfl)) dX1_change_29 hw) (fun _ h H locs cells slots hR hw => ?_)
    refine r_aload_n X dX1_change_32 rfl (lv_at hl 0 rfl) ?_
    refine r_gR X hR fk_X1_40 dX1_change_33 hw (fun x5 hw => ?_)
    refine lv_iload_n hx hb dX1_change_36 rfl (lv_at hl 2 rfl) ?_
    refine r_callV X hR (c_V (ci := 4) (q := (RX4, TX4, 4)) X hR hl.1 (c_X4_ends l g x5 v2) (lw_V q1292 q1075 q1076 q121 q1077) rfl rfl mh_X4_ends rfl (by decide) (by decide) rfl (cat4 (Nat.le_of_ble_eq_true rfl)) dX1_change_37 hw) (fun _ h H locs cells slots hR hw => ?_)
    refine r_aload_n X dX1_change_40 rfl (lv_at hl 0 rfl) ?_
    refine r_gR X hR fk_X1_40 dX1_change_41 hw (fun x6 hw => ?_)
    refine lv_iload_n hx hb dX1_change_44 rfl (lv_at hl 1 rfl) ?_
    refine r_callI X hR (c_V (ci := 4) (q := (RX4, TX4, 4)) X hR hl.1 (c_X4_lands l g x6 v1) (lw_V q1182 q1183 q1184 q121 q1185) rfl rfl mh_X4_lands rfl (by decide) (by decide) rfl (cat4 (Nat.le_of_ble_eq_true rfl)) dX1_change_45 hw) (fun x7 h H locs cells slots hR hw => ?_)
    refine r_aload_n X dX1_change_48 rfl (lv_at hl 0 rfl) ?_
    refine r_gR X hR fk_X1_33 dX1_change_49 hw (fun x8 hw => ?_)
    refine lv_iload_n hx hb dX1_change_52 rfl (lv_at hl 1 rfl) ?_
    refine r_callI X hR (c_V (ci := 4) (q := (RX4, TX4, 4)) X hR hl.1 (c_X4_lands l g x8 v1) (lw_V q1182 q1183 q1184 q121 q1185) rfl rfl mh_X4_lands rfl (by decide) (by decide) rfl (cat4 (Nat.le_of_ble_eq_true rfl)) dX1_change_53 hw) (fun x9 h H locs cells slots hR hw => ?_)
    refine lv_isub hx hb dX1_change_56 ?_
    exact r_iret X hR dX1_change_57 hw
  · have hw := hw.2 c2
    refine r_aload_n X dX1_change_12 rfl (lv_at hl 0 rfl) ?_
    refine lv_iconst (v := 1) hx hb dX1_change_13 (by decide) ?_
    refine r_put X hR fp_X1_74 (Or.inl fn_X1_74) (nf_int _) dX1_change_14 hw (fun H locs h hR hw => ?_)
    refine lv_sipush (v := (-1000)) hx hb dX1_change_17 (by decide) ?_
    exact r_iret X hR dX1_change_20 hw
theorem t_X1_lapsesIn_L31 {p : Program} {l : Launch} {e : Env} {s : State} {m : MethodId} {args : Array Value} {below : List Frame} {meth : Method} {c : Code} {g : GT} {h0 : AH} {v0 : Option Nat} {v1 : Int32} {K : Int32 → AH → Prop} {E : Nat → AH → Prop} (X : Cx g h0 p s m args meth c RX1 cX1_lapsesIn 3 (Option.some Jvm.ClassFile.FieldType.int))  : ∀ (n : Nat) {v2 : Int32} {h : AH} {H : Heap} {locs : List Loc} {cells slots : Nat} {ls : Array Slot}, LpN1 (w_X1_lapsesIn_L31 g v0 v1 K E) n v2 h → HS g s h H locs → lv_has ls 3 [(0, va_rf v0), (1, .int v1), (2, .int v2)] → W p l e (RM 4 h0) s m args below meth c H locs cells slots (MQT below g (qI K) E args s h0) (F0 m 31 ls []) := by
  have hx := X.hx
  have hb := X.hb
  intro n
  induction n with
  | zero =>
    intro v2 h H locs cells slots ls hw
    exact hw.elim
  | succ n k31 =>
    intro v2 h H locs cells slots ls hw hR hl
    have hw : w_X1_lapsesIn_L31 g v0 v1 K E (LpN1 (w_X1_lapsesIn_L31 g v0 v1 K E) n) v2 h := hw
    unfold w_X1_lapsesIn_L31 at hw
    refine lv_iload_n hx hb dX1_lapsesIn_31 rfl (lv_at hl 2 rfl) ?_
    refine lv_bipush (v := 30) hx hb dX1_lapsesIn_32 (by decide) ?_
    refine lv_icmp_gt (tgt := 67) hx hb dX1_lapsesIn_34 (by decide) (fun c5 => ?_) (fun c5 => ?_)
    · have hw := hw.1 c5
      refine lv_bipush (v := (-2)) hx hb dX1_lapsesIn_67 (by decide) ?_
      exact r_iret X hR dX1_lapsesIn_69 hw
    · have hw := hw.2 c5
      refine r_aload_n X dX1_lapsesIn_37 rfl (lv_at hl 0 rfl) ?_
      refine r_gR X hR fk_X1_40 dX1_lapsesIn_38 hw (fun x6 hw => ?_)
      refine r_gR X hR fk_X1_158 dX1_lapsesIn_41 hw (fun x7 hw => ?_)
      refine lv_iload_n hx hb dX1_lapsesIn_44 rfl (lv_at hl 1 rfl) ?_
      refine r_iald X hR dX1_lapsesIn_45 hw (fun x8 hw => ?_)
      refine lv_bipush (v := (-2)) hx hb dX1_lapsesIn_46 (by decide) ?_
      refine lv_icmp_ne (tgt := 53) hx hb dX1_lapsesIn_48 (by decide) (fun c9 => ?_) (fun c9 => ?_)
      · have hw := hw.1 c9
        refine r_aload_n X dX1_lapsesIn_53 rfl (lv_at hl 0 rfl) ?_
        refine r_gR X hR fk_X1_40 dX1_lapsesIn_54 hw (fun x10 hw => ?_)
        refine lv_iconst (v := 0) hx hb dX1_lapsesIn_57 (by decide) ?_
        refine r_callV X hR (c_V (ci := 4) (q := (RX4, TX4, 4)) X hR hl.1 (c_X4_ends l g x10 0) (lw_V q1292 q1075 q1076 q121 q1077) rfl rfl mh_X4_ends rfl (by decide) (by decide) rfl (cat4 (Nat.le_of_ble_eq_true rfl)) dX1_lapsesIn_58 hw) (fun _ h H locs cells slots hR hw => ?_)
        refine r_iinc X (k := 2) (v := (v2 + 1)) (lv' := fun x11 => [(2, .int x11), (0, va_rf v0), (1, .int v1)]) dX1_lapsesIn_61 hl rfl rfl (by decide) hw (fun _ => rfl) (fun x11 hw ls hl => ?_)
        refine lv_goto (tgt := 31) hx hb dX1_lapsesIn_64 (by decide) ?_
        exact k31 hw hR (lv_sub hl [1, 2, 0] rfl)
      · have hw := hw.2 c9
        refine lv_iload_n hx hb dX1_lapsesIn_51 rfl (lv_at hl 2 rfl) ?_
        exact r_iret X hR dX1_lapsesIn_52 hw
theorem c_X1_lapsesIn (l : Launch) (g : GT) (v0 : Option Nat) (v1 : Int32) : CT qI l yX1_lapsesIn (ws_ yX1_lapsesIn cX1_lapsesIn 3 (Option.some Jvm.ClassFile.FieldType.int)) 4 g [va_rf v0, .int v1] (fun K E h => w_X1_lapsesIn g v0 v1 K E h) := by
  refine CT_of (lv := [(0, va_rf v0), (1, .int v1)]) (by decide +kernel) (by simp [lg_sl, cat_rf, cat_int, cat_long]) (by simp [lv_args, cat_rf, cat_int, cat_long]) (fun h0 K E p e s m args below meth c H locs cells slots ls X hxt hmn hw hR hl => ?_)
  have hx := X.hx
  have hb := X.hb
  unfold w_X1_lapsesIn at hw
  refine r_aload_n X dX1_lapsesIn_0 rfl (lv_at hl 0 rfl) ?_
  refine r_callV X hR (c_V (ci := 1) (q := (RX1, TX1, 21)) X hR hl.1 (c_X1_anew l g v0) (lw_V q455 q457 qs2 q115 q458) rfl rfl mh_X1_anew rfl (by decide) (by decide) rfl (cat4 (Nat.le_of_ble_eq_true rfl)) dX1_lapsesIn_1 hw) (fun _ h H locs cells slots hR hw => ?_)
  refine r_aload_n X dX1_lapsesIn_4 rfl (lv_at hl 0 rfl) ?_
  refine lv_iload_n hx hb dX1_lapsesIn_5 rfl (lv_at hl 1 rfl) ?_
  refine r_callI X hR (c_V (ci := 1) (q := (RX1, TX1, 21)) X hR hl.1 (c_X1_isUmbrella l g v0 v1) (lw_V q1142 q1144 qs32 q115 q1145) rfl rfl mh_X1_isUmbrella rfl (by decide) (by decide) rfl (cat4 (Nat.le_of_ble_eq_true rfl)) dX1_lapsesIn_6 hw) (fun x1 h H locs cells slots hR hw => ?_)
  refine lv_if_ne (tgt := 18) hx hb dX1_lapsesIn_9 (by decide) (fun c2 => ?_) (fun c2 => ?_)
  · have hw := hw.1 c2
    refine r_aload_n X dX1_lapsesIn_18 rfl (lv_at hl 0 rfl) ?_
    refine r_gR X hR fk_X1_40 dX1_lapsesIn_19 hw (fun x3 hw => ?_)
    refine r_aload_n X dX1_lapsesIn_22 rfl (lv_at hl 0 rfl) ?_
    refine r_gR X hR fk_X1_33 dX1_lapsesIn_23 hw (fun x4 hw => ?_)
    refine r_callV X hR (c_V (ci := 4) (q := (RX4, TX4, 4)) X hR hl.1 (c_X4_become l g x3 x4) (lw_V q1287 q1288 q1289 q121 q1290) rfl rfl mh_X4_become rfl (by decide) (by decide) rfl (cat4 (Nat.le_of_ble_eq_true rfl)) dX1_lapsesIn_26 hw) (fun _ h H locs cells slots hR hw => ?_)
    refine lv_iconst (v := 0) hx hb dX1_lapsesIn_29 (by decide) ?_
    refine lv_istore_n (i := 2) (lv' := [(2, .int 0), (0, va_rf v0), (1, .int v1)]) hx hb dX1_lapsesIn_30 rfl hl (by decide) rfl (fun ls hl => ?_)
    obtain ⟨n, hw⟩ := hw
    exact t_X1_lapsesIn_L31 X  n hw hR (lv_sub hl [1, 2, 0] rfl)
  · have hw := hw.2 c2
    refine r_aload_n X dX1_lapsesIn_12 rfl (lv_at hl 0 rfl) ?_
    refine lv_iconst (v := 1) hx hb dX1_lapsesIn_13 (by decide) ?_
    refine r_callI X hR (c_V (ci := 1) (q := (RX1, TX1, 21)) X hR hl.1 (c_X1_no l g v0 1) (lw_V q462 q464 qs3 q115 q465) rfl rfl mh_X1_no rfl (by decide) (by decide) rfl (cat4 (Nat.le_of_ble_eq_true rfl)) dX1_lapsesIn_14 hw) (fun x12 h H locs cells slots hR hw => ?_)
    exact r_iret X hR dX1_lapsesIn_17 hw
theorem c_X1_arePeople (l : Launch) (g : GT) (v0 : Option Nat) (v1 : Int32) : CT qI l yX1_arePeople (ws_ yX1_arePeople cX1_arePeople 2 (Option.some Jvm.ClassFile.FieldType.boolean)) 2 g [va_rf v0, .int v1] (fun K E h => w_X1_arePeople g v0 v1 K E h) := by
  refine CT_of (lv := [(0, va_rf v0), (1, .int v1)]) (by decide +kernel) (by simp [lg_sl, cat_rf, cat_int, cat_long]) (by simp [lv_args, cat_rf, cat_int, cat_long]) (fun h0 K E p e s m args below meth c H locs cells slots ls X hxt hmn hw hR hl => ?_)
  have hx := X.hx
  have hb := X.hb
  unfold w_X1_arePeople at hw
  refine r_aload_n X dX1_arePeople_0 rfl (lv_at hl 0 rfl) ?_
  refine r_gR X hR fk_X1_102 dX1_arePeople_1 hw (fun x1 hw => ?_)
  refine r_ifnull (tgt := 30) X dX1_arePeople_4 (by decide) (fun c2 => ?_) (fun c2 => ?_)
  · have hw := hw.1 c2
    refine lv_iconst (v := 0) hx hb dX1_arePeople_30 (by decide) ?_
    exact r_zret X hR dX1_arePeople_31 hw
  · have hw := hw.2 c2
    refine lv_iload_n hx hb dX1_arePeople_7 rfl (lv_at hl 1 rfl) ?_
    refine lv_iconst (v := 1) hx hb dX1_arePeople_8 (by decide) ?_
    refine lv_iconst (v := 1) hx hb dX1_arePeople_9 (by decide) ?_
    refine r_aload_n X dX1_arePeople_10 rfl (lv_at hl 0 rfl) ?_
    refine r_gR X hR fk_X1_102 dX1_arePeople_11 hw (fun x3 hw => ?_)
    refine r_gI X hR fk_X1_131 dX1_arePeople_14 hw (fun x4 hw => ?_)
    refine lv_ishl hx hb dX1_arePeople_17 ?_
    refine lv_iconst (v := 1) hx hb dX1_arePeople_18 (by decide) ?_
    refine lv_isub hx hb dX1_arePeople_19 ?_
    refine r_callI X hR (c_S X hR hl.1 (c_X1_in l g v1 1 ((1 <<< (x4 &&& 31)) - 1)) (lw_S q459 q460 q115 q461) mh_X1_in rfl (by decide) (by decide) rfl (cat4 (Nat.le_of_ble_eq_true rfl)) dX1_arePeople_20 hw) (fun x5 h H locs cells slots hR hw => ?_)
    refine lv_if_eq (tgt := 30) hx hb dX1_arePeople_23 (by decide) (fun c6 => ?_) (fun c6 => ?_)
    · have hw := hw.1 c6
      refine lv_iconst (v := 0) hx hb dX1_arePeople_30 (by decide) ?_
      exact r_zret X hR dX1_arePeople_31 hw
    · have hw := hw.2 c6
      refine lv_iconst (v := 1) hx hb dX1_arePeople_26 (by decide) ?_
      refine lv_goto (tgt := 31) hx hb dX1_arePeople_27 (by decide) ?_
      exact r_zret X hR dX1_arePeople_31 hw
theorem c_X15_room (l : Launch) (g : GT) (v0 : Option Nat) : CT qI l yX15_room (ws_ yX15_room cX15_room 1 (Option.some Jvm.ClassFile.FieldType.int)) 1 g [va_rf v0] (fun K E h => w_X15_room g v0 K E h) := by
  refine CT_of (lv := [(0, va_rf v0)]) (by decide +kernel) (by simp [lg_sl, cat_rf, cat_int, cat_long]) (by simp [lv_args, cat_rf, cat_int, cat_long]) (fun h0 K E p e s m args below meth c H locs cells slots ls X hxt hmn hw hR hl => ?_)
  have hx := X.hx
  have hb := X.hb
  unfold w_X15_room at hw
  refine r_aload_n X dX15_room_0 rfl (lv_at hl 0 rfl) ?_
  refine r_gI X hR fk_X15_15 dX15_room_1 hw (fun x1 hw => ?_)
  refine lv_iconst (v := 4) hx hb dX15_room_4 (by decide) ?_
  refine lv_idiv hx hb dX15_room_5 (by decide) ?_
  exact r_iret X hR dX15_room_6 hw
theorem t_X7_tries_J159 {p : Program} {l : Launch} {e : Env} {s : State} {m : MethodId} {args : Array Value} {below : List Frame} {meth : Method} {c : Code} {g : GT} {h0 : AH} {rc : GT → Option Nat → Int32 → Int32 → (Unit → AH → Prop) → (Nat → AH → Prop) → AH → Prop} {D' : Nat} {v0 : Option Nat} {v1 : Int32} {v2 : Int32} {v3 : Int32} {K : Unit → AH → Prop} {E : Nat → AH → Prop} {L71 : Int32 → AH → Prop} {h : AH} {H : Heap} {locs : List Loc} {cells slots : Nat} {ls : Array Slot} (X : Cx g h0 p s m args meth c RX7 cX7_tries 4 none) (hrc : ∀ (v0 : Option Nat) (v1 : Int32) (v2 : Int32), CT qV l yX7_tries (ws_ yX7_tries cX7_tries 4 none) D' g [va_rf v0, .int v1, .int v2] (fun K E h => rc g v0 v1 v2 K E h)) (hD : 2 ≤ D') (k71 : ∀ {v3' : Int32} {h : AH} {H : Heap} {locs : List Loc} {cells slots : Nat} {ls : Array Slot}, L71 v3' h → HS g s h H locs → lv_has ls 4 [(0, va_rf v0), (1, .int v1), (2, .int v2), (3, .int (v3'))] → W p l e (RM (D' + 1) h0) s m args below meth c H locs cells slots (MQT below g (qV K) E args s h0) (F0 m 71 ls [])) (hw : w_X7_tries_J159 rc g v0 v1 v2 v3 K E L71 h) (hR : HS g s h H locs) (hl : lv_has ls 4 [(0, va_rf v0), (1, .int v1), (2, .int v2), (3, .int v3)]) : W p l e (RM (D' + 1) h0) s m args below meth c H locs cells slots (MQT below g (qV K) E args s h0) (F0 m 159 ls []) := by
  have hx := X.hx
  have hb := X.hb
  unfold w_X7_tries_J159 at hw
  refine r_iinc X (k := 3) (v := (v3 + 1)) (lv' := fun x28 => [(3, .int x28), (0, va_rf v0), (1, .int v1), (2, .int v2)]) dX7_tries_159 hl rfl rfl (by decide) hw (fun _ => rfl) (fun x28 hw ls hl => ?_)
  refine lv_goto (tgt := 71) hx hb dX7_tries_162 (by decide) ?_
  exact k71 hw hR (lv_sub hl [1, 2, 3, 0] rfl)
theorem t_X7_tries_J145 {p : Program} {l : Launch} {e : Env} {s : State} {m : MethodId} {args : Array Value} {below : List Frame} {meth : Method} {c : Code} {g : GT} {h0 : AH} {rc : GT → Option Nat → Int32 → Int32 → (Unit → AH → Prop) → (Nat → AH → Prop) → AH → Prop} {D' : Nat} {v0 : Option Nat} {v1 : Int32} {v2 : Int32} {v3 : Int32} {s0 : Int32} {s1 : Int32} {s2 : Int32} {s3 : Option Nat} {K : Unit → AH → Prop} {E : Nat → AH → Prop} {L71 : Int32 → AH → Prop} {h : AH} {H : Heap} {locs : List Loc} {cells slots : Nat} {ls : Array Slot} (X : Cx g h0 p s m args meth c RX7 cX7_tries 4 none) (hrc : ∀ (v0 : Option Nat) (v1 : Int32) (v2 : Int32), CT qV l yX7_tries (ws_ yX7_tries cX7_tries 4 none) D' g [va_rf v0, .int v1, .int v2] (fun K E h => rc g v0 v1 v2 K E h)) (hD : 2 ≤ D') (k71 : ∀ {v3' : Int32} {h : AH} {H : Heap} {locs : List Loc} {cells slots : Nat} {ls : Array Slot}, L71 v3' h → HS g s h H locs → lv_has ls 4 [(0, va_rf v0), (1, .int v1), (2, .int v2), (3, .int (v3'))] → W p l e (RM (D' + 1) h0) s m args below meth c H locs cells slots (MQT below g (qV K) E args s h0) (F0 m 71 ls [])) (hw : w_X7_tries_J145 rc g v0 v1 v2 v3 s0 s1 s2 s3 K E L71 h) (hR : HS g s h H locs) (hl : lv_has ls 4 [(0, va_rf v0), (1, .int v1), (2, .int v2), (3, .int v3)]) : W p l e (RM (D' + 1) h0) s m args below meth c H locs cells slots (MQT below g (qV K) E args s h0) (F0 m 145 ls [.int s0, .int s1, .int s2, va_rf s3]) := by
  have hx := X.hx
  have hb := X.hb
  unfold w_X7_tries_J145 at hw
  refine lv_iadd hx hb dX7_tries_145 ?_
  refine r_callV X hR (c_V (ci := 7) (q := (RX7, TX7, 7)) X hR hl.1 (hrc s3 s2 (s1 + s0)) (lw_V q1320 q1322 qs39 q124 q1323) rfl rfl mh_X7_tries rfl (by omega) (by decide) rfl (cat4 (Nat.le_of_ble_eq_true rfl)) dX7_tries_146 hw) (fun _ h H locs cells slots hR hw => ?_)
  refine r_aload_n X dX7_tries_149 rfl (lv_at hl 0 rfl) ?_
  refine r_gR X hR fk_X7_18 dX7_tries_150 hw (fun x26 hw => ?_)
  refine lv_iload_n hx hb dX7_tries_153 rfl (lv_at hl 3 rfl) ?_
  refine lv_dup2_11 hx hb dX7_tries_154 rfl (cat_rf _) ?_
  refine r_iald X hR dX7_tries_155 hw (fun x27 hw => ?_)
  refine lv_iconst (v := 1) hx hb dX7_tries_156 (by decide) ?_
  refine lv_iadd hx hb dX7_tries_157 ?_
  refine r_iast X hR dX7_tries_158 hw (fun H locs h hR hw => ?_)
  exact t_X7_tries_J159 X hrc hD k71 hw hR (lv_sub hl [0, 1, 2, 3] rfl)
theorem t_X7_tries_L71 {p : Program} {l : Launch} {e : Env} {s : State} {m : MethodId} {args : Array Value} {below : List Frame} {meth : Method} {c : Code} {g : GT} {h0 : AH} {rc : GT → Option Nat → Int32 → Int32 → (Unit → AH → Prop) → (Nat → AH → Prop) → AH → Prop} {D' : Nat} {v0 : Option Nat} {v1 : Int32} {v2 : Int32} {K : Unit → AH → Prop} {E : Nat → AH → Prop} (X : Cx g h0 p s m args meth c RX7 cX7_tries 4 none) (hrc : ∀ (v0 : Option Nat) (v1 : Int32) (v2 : Int32), CT qV l yX7_tries (ws_ yX7_tries cX7_tries 4 none) D' g [va_rf v0, .int v1, .int v2] (fun K E h => rc g v0 v1 v2 K E h)) (hD : 2 ≤ D')  : ∀ (n : Nat) {v3 : Int32} {h : AH} {H : Heap} {locs : List Loc} {cells slots : Nat} {ls : Array Slot}, LpN1 (w_X7_tries_L71 rc g v0 v1 v2 K E) n v3 h → HS g s h H locs → lv_has ls 4 [(0, va_rf v0), (1, .int v1), (2, .int v2), (3, .int v3)] → W p l e (RM (D' + 1) h0) s m args below meth c H locs cells slots (MQT below g (qV K) E args s h0) (F0 m 71 ls []) := by
  have hx := X.hx
  have hb := X.hb
  intro n
  induction n with
  | zero =>
    intro v3 h H locs cells slots ls hw
    exact hw.elim
  | succ n k71 =>
    intro v3 h H locs cells slots ls hw hR hl
    have hw : w_X7_tries_L71 rc g v0 v1 v2 K E (LpN1 (w_X7_tries_L71 rc g v0 v1 v2 K E) n) v3 h := hw
    unfold w_X7_tries_L71 at hw
    refine lv_iload_n hx hb dX7_tries_71 rfl (lv_at hl 3 rfl) ?_
    refine r_aload_n X dX7_tries_72 rfl (lv_at hl 0 rfl) ?_
    refine r_gR X hR fk_X7_21 dX7_tries_73 hw (fun x9 hw => ?_)
    refine r_gI X hR fk_X7_37 dX7_tries_76 hw (fun x10 hw => ?_)
    refine lv_icmp_ge (tgt := 165) hx hb dX7_tries_79 (by decide) (fun c11 => ?_) (fun c11 => ?_)
    · have hw := hw.1 c11
      exact r_vret X hR rfl dX7_tries_165 hw
    · have hw := hw.2 c11
      refine r_aload_n X dX7_tries_82 rfl (lv_at hl 0 rfl) ?_
      refine r_gR X hR fk_X7_18 dX7_tries_83 hw (fun x12 hw => ?_)
      refine lv_iload_n hx hb dX7_tries_86 rfl (lv_at hl 3 rfl) ?_
      refine r_iald X hR dX7_tries_87 hw (fun x13 hw => ?_)
      refine lv_if_ne (tgt := 94) hx hb dX7_tries_88 (by decide) (fun c14 => ?_) (fun c14 => ?_)
      · have hw := hw.1 c14
        refine r_aload_n X dX7_tries_94 rfl (lv_at hl 0 rfl) ?_
        refine r_gR X hR fk_X7_18 dX7_tries_95 hw (fun x15 hw => ?_)
        refine lv_iload_n hx hb dX7_tries_98 rfl (lv_at hl 3 rfl) ?_
        refine lv_dup2_11 hx hb dX7_tries_99 rfl (cat_rf _) ?_
        refine r_iald X hR dX7_tries_100 hw (fun x16 hw => ?_)
        refine lv_iconst (v := 1) hx hb dX7_tries_101 (by decide) ?_
        refine lv_isub hx hb dX7_tries_102 ?_
        refine r_iast X hR dX7_tries_103 hw (fun H locs h hR hw => ?_)
        refine r_aload_n X dX7_tries_104 rfl (lv_at hl 0 rfl) ?_
        refine r_gR X hR fk_X7_9 dX7_tries_105 hw (fun x17 hw => ?_)
        refine lv_iload_n hx hb dX7_tries_108 rfl (lv_at hl 1 rfl) ?_
        refine lv_iload_n hx hb dX7_tries_109 rfl (lv_at hl 3 rfl) ?_
        refine r_iast X hR dX7_tries_110 hw (fun H locs h hR hw => ?_)
        refine r_aload_n X dX7_tries_111 rfl (lv_at hl 0 rfl) ?_
        refine lv_iload_n hx hb dX7_tries_112 rfl (lv_at hl 1 rfl) ?_
        refine lv_iconst (v := 1) hx hb dX7_tries_113 (by decide) ?_
        refine lv_iadd hx hb dX7_tries_114 ?_
        refine lv_iload_n hx hb dX7_tries_115 rfl (lv_at hl 2 rfl) ?_
        refine r_aload_n X dX7_tries_116 rfl (lv_at hl 0 rfl) ?_
        refine r_gR X hR fk_X7_25 dX7_tries_117 hw (fun x18 hw => ?_)
        refine r_gR X hR fk_X7_74 dX7_tries_120 hw (fun x19 hw => ?_)
        refine lv_iload_n hx hb dX7_tries_123 rfl (lv_at hl 3 rfl) ?_
        refine r_iald X hR dX7_tries_124 hw (fun x20 hw => ?_)
        refine lv_iload_n hx hb dX7_tries_125 rfl (lv_at hl 1 rfl) ?_
        refine lv_icmp_ne (tgt := 133) hx hb dX7_tries_126 (by decide) (fun c21 => ?_) (fun c21 => ?_)
        · have hw := hw.1 c21
          refine r_aload_n X dX7_tries_133 rfl (lv_at hl 0 rfl) ?_
          refine r_gR X hR fk_X7_21 dX7_tries_134 hw (fun x22 hw => ?_)
          refine r_gR X hR fk_X7_51 dX7_tries_137 hw (fun x23 hw => ?_)
          refine lv_iload_n hx hb dX7_tries_140 rfl (lv_at hl 3 rfl) ?_
          refine r_aald X hR (t := 6) (by decide) (by decide) dX7_tries_141 hw (fun x24 hw => ?_)
          refine r_gI X hR fk_X7_77 dX7_tries_142 hw (fun x25 hw => ?_)
          exact t_X7_tries_J145 X hrc hD k71 hw hR (lv_sub hl [0, 1, 2, 3] rfl)
        · have hw := hw.2 c21
          refine lv_iconst (v := 0) hx hb dX7_tries_129 (by decide) ?_
          refine lv_goto (tgt := 145) hx hb dX7_tries_130 (by decide) ?_
          exact t_X7_tries_J145 X hrc hD k71 hw hR (lv_sub hl [0, 1, 2, 3] rfl)
      · have hw := hw.2 c14
        refine lv_goto (tgt := 159) hx hb dX7_tries_91 (by decide) ?_
        exact t_X7_tries_J159 X hrc hD k71 hw hR (lv_sub hl [0, 1, 2, 3] rfl)
theorem c_X7_tries_B (l : Launch) (g : GT) {rc : GT → Option Nat → Int32 → Int32 → (Unit → AH → Prop) → (Nat → AH → Prop) → AH → Prop} {D' : Nat} (hD : 2 ≤ D') (hrc : ∀ (v0 : Option Nat) (v1 : Int32) (v2 : Int32), CT qV l yX7_tries (ws_ yX7_tries cX7_tries 4 none) D' g [va_rf v0, .int v1, .int v2] (fun K E h => rc g v0 v1 v2 K E h)) (v0 : Option Nat) (v1 : Int32) (v2 : Int32) : CT qV l yX7_tries (ws_ yX7_tries cX7_tries 4 none) (D' + 1) g [va_rf v0, .int v1, .int v2] (fun K E h => w_X7_tries_B rc g v0 v1 v2 K E h) := by
  refine CT_of (lv := [(0, va_rf v0), (1, .int v1), (2, .int v2)]) (by decide +kernel) (by simp [lg_sl, cat_rf, cat_int, cat_long]) (by simp [lv_args, cat_rf, cat_int, cat_long]) (fun h0 K E p e s m args below meth c H locs cells slots ls X hxt hmn hw hR hl => ?_)
  have hx := X.hx
  have hb := X.hb
  unfold w_X7_tries_B at hw
  refine lv_iload_n hx hb dX7_tries_0 rfl (lv_at hl 2 rfl) ?_
  refine r_aload_n X dX7_tries_1 rfl (lv_at hl 0 rfl) ?_
  refine r_gI X hR fk_X7_34 dX7_tries_2 hw (fun x1 hw => ?_)
  refine lv_icmp_lt (tgt := 9) hx hb dX7_tries_5 (by decide) (fun c2 => ?_) (fun c2 => ?_)
  · have hw := hw.1 c2
    refine lv_iload_n hx hb dX7_tries_9 rfl (lv_at hl 1 rfl) ?_
    refine r_aload_n X dX7_tries_10 rfl (lv_at hl 0 rfl) ?_
    refine r_gR X hR fk_X7_21 dX7_tries_11 hw (fun x3 hw => ?_)
    refine r_gI X hR fk_X7_65 dX7_tries_14 hw (fun x4 hw => ?_)
    refine lv_icmp_ne (tgt := 41) hx hb dX7_tries_17 (by decide) (fun c5 => ?_) (fun c5 => ?_)
    · have hw := hw.1 c5
      refine r_aload_n X dX7_tries_41 rfl (lv_at hl 0 rfl) ?_
      refine r_gI X hR fk_X7_29 dX7_tries_42 hw (fun x6 hw => ?_)
      refine lv_iload_n hx hb dX7_tries_45 rfl (lv_at hl 1 rfl) ?_
      refine r_callI X hR (c_SN X hR hl.1 (c_X1_has l g x6 v1) (lw_meth q1126) q1311 q115 q1125 mh_X1_has rfl (by omega) (by decide) rfl (cat4 (Nat.le_of_ble_eq_true rfl)) dX7_tries_46 hw) (fun x7 h H locs cells slots hR hw => ?_)
      refine lv_if_ne (tgt := 69) hx hb dX7_tries_49 (by decide) (fun c8 => ?_) (fun c8 => ?_)
      · have hw := hw.1 c8
        refine lv_iconst (v := 0) hx hb dX7_tries_69 (by decide) ?_
        refine lv_istore_n (i := 3) (lv' := [(3, .int 0), (0, va_rf v0), (1, .int v1), (2, .int v2)]) hx hb dX7_tries_70 rfl hl (by decide) rfl (fun ls hl => ?_)
        obtain ⟨n, hw⟩ := hw
        exact t_X7_tries_L71 X hrc hD  n hw hR (lv_sub hl [1, 2, 3, 0] rfl)
      · have hw := hw.2 c8
        refine r_aload_n X dX7_tries_52 rfl (lv_at hl 0 rfl) ?_
        refine r_gR X hR fk_X7_9 dX7_tries_53 hw (fun x29 hw => ?_)
        refine lv_iload_n hx hb dX7_tries_56 rfl (lv_at hl 1 rfl) ?_
        refine lv_bipush (v := (-2)) hx hb dX7_tries_57 (by decide) ?_
        refine r_iast X hR dX7_tries_59 hw (fun H locs h hR hw => ?_)
        refine r_aload_n X dX7_tries_60 rfl (lv_at hl 0 rfl) ?_
        refine lv_iload_n hx hb dX7_tries_61 rfl (lv_at hl 1 rfl) ?_
        refine lv_iconst (v := 1) hx hb dX7_tries_62 (by decide) ?_
        refine lv_iadd hx hb dX7_tries_63 ?_
        refine lv_iload_n hx hb dX7_tries_64 rfl (lv_at hl 2 rfl) ?_
        refine r_callV X hR (c_V (ci := 7) (q := (RX7, TX7, 7)) X hR hl.1 (hrc v0 (v1 + 1) v2) (lw_V q1320 q1322 qs39 q124 q1323) rfl rfl mh_X7_tries rfl (by omega) (by decide) rfl (cat4 (Nat.le_of_ble_eq_true rfl)) dX7_tries_65 hw) (fun _ h H locs cells slots hR hw => ?_)
        exact r_vret X hR rfl dX7_tries_68 hw
    · have hw := hw.2 c5
      refine r_aload_n X dX7_tries_20 rfl (lv_at hl 0 rfl) ?_
      refine lv_iload_n hx hb dX7_tries_21 rfl (lv_at hl 2 rfl) ?_
      refine r_put X hR fp_X7_34 (Or.inl fn_X7_34) (nf_int _) dX7_tries_22 hw (fun H locs h hR hw => ?_)
      refine r_aload_n X dX7_tries_25 rfl (lv_at hl 0 rfl) ?_
      refine r_gR X hR fk_X7_9 dX7_tries_26 hw (fun x30 hw => ?_)
      refine lv_iconst (v := 0) hx hb dX7_tries_29 (by decide) ?_
      refine r_aload_n X dX7_tries_30 rfl (lv_at hl 0 rfl) ?_
      refine r_gR X hR fk_X7_15 dX7_tries_31 hw (fun x31 hw => ?_)
      refine lv_iconst (v := 0) hx hb dX7_tries_34 (by decide) ?_
      refine lv_bipush (v := 6) hx hb dX7_tries_35 (by decide) ?_
      refine r_copy X hl.1 hR q1324 q1129 q1128 q149 (by omega) (cat4 (Nat.le_of_ble_eq_true rfl)) dX7_tries_37 hw (fun H locs h hR hw => ?_)
      exact r_vret X hR rfl dX7_tries_40 hw
  · have hw := hw.2 c2
    exact r_vret X hR rfl dX7_tries_8 hw
theorem c_X7_tries (n : Nat) (l : Launch) (g : GT) : ∀ (v0 : Option Nat) (v1 : Int32) (v2 : Int32), CT qV l yX7_tries (ws_ yX7_tries cX7_tries 4 none) (2 + n) g [va_rf v0, .int v1, .int v2] (fun K E h => w_X7_tries n g v0 v1 v2 K E h) := by
  induction n with
  | zero => exact fun _ _ _ _ _ _ _ _ hw => hw.elim
  | succ n ih => exact fun v0 v1 v2 => c_X7_tries_B l g (by omega) ih v0 v1 v2
theorem t_X7_seek_J79 {p : Program} {l : Launch} {e : Env} {s : State} {m : MethodId} {args : Array Value} {below : List Frame} {meth : Method} {c : Code} {g : GT} {h0 : AH} {v0 : Option Nat} {v1 : Option Nat} {v2 : Option Nat} {v3 : Int32} {v4 : Int32} {s0 : Int32} {s1 : Int32} {s2 : Option Nat} {K : Int32 → AH → Prop} {E : Nat → AH → Prop} {L24 : Int32 → AH → Prop} {h : AH} {H : Heap} {locs : List Loc} {cells slots : Nat} {ls : Array Slot} (X : Cx g h0 p s m args meth c RX7 cX7_seek 5 (Option.some Jvm.ClassFile.FieldType.int)) (k24 : ∀ {v4' : Int32} {h : AH} {H : Heap} {locs : List Loc} {cells slots : Nat} {ls : Array Slot}, L24 v4' h → HS g s h H locs → lv_has ls 5 [(0, va_rf v0), (1, va_rf v1), (2, va_rf v2), (3, .int v3), (4, .int (v4'))] → W p l e (RM 11 h0) s m args below meth c H locs cells slots (MQT below g (qI K) E args s h0) (F0 m 24 ls [])) (hw : w_X7_seek_J79 g v0 v1 v2 v3 v4 s0 s1 s2 K E L24 h) (hR : HS g s h H locs) (hl : lv_has ls 5 [(0, va_rf v0), (1, va_rf v1), (2, va_rf v2), (3, .int v3), (4, .int v4)]) : W p l e (RM 11 h0) s m args below meth c H locs cells slots (MQT below g (qI K) E args s h0) (F0 m 79 ls [.int s0, .int s1, va_rf s2]) := by
  have hx := X.hx
  have hb := X.hb
  unfold w_X7_seek_J79 at hw
  refine r_iast X hR dX7_seek_79 hw (fun H locs h hR hw => ?_)
  refine r_iinc X (k := 4) (v := (v4 + 1)) (lv' := fun x10 => [(4, .int x10), (0, va_rf v0), (1, va_rf v1), (2, va_rf v2), (3, .int v3)]) dX7_seek_80 hl rfl rfl (by decide) hw (fun _ => rfl) (fun x10 hw ls hl => ?_)
  refine lv_goto (tgt := 24) hx hb dX7_seek_83 (by decide) ?_
  exact k24 hw hR (lv_sub hl [1, 2, 3, 4, 0] rfl)
theorem t_X7_seek_J78 {p : Program} {l : Launch} {e : Env} {s : State} {m : MethodId} {args : Array Value} {below : List Frame} {meth : Method} {c : Code} {g : GT} {h0 : AH} {v0 : Option Nat} {v1 : Option Nat} {v2 : Option Nat} {v3 : Int32} {v4 : Int32} {s0 : Int32} {s1 : Option Nat} {K : Int32 → AH → Prop} {E : Nat → AH → Prop} {L24 : Int32 → AH → Prop} {h : AH} {H : Heap} {locs : List Loc} {cells slots : Nat} {ls : Array Slot} (X : Cx g h0 p s m args meth c RX7 cX7_seek 5 (Option.some Jvm.ClassFile.FieldType.int)) (k24 : ∀ {v4' : Int32} {h : AH} {H : Heap} {locs : List Loc} {cells slots : Nat} {ls : Array Slot}, L24 v4' h → HS g s h H locs → lv_has ls 5 [(0, va_rf v0), (1, va_rf v1), (2, va_rf v2), (3, .int v3), (4, .int (v4'))] → W p l e (RM 11 h0) s m args below meth c H locs cells slots (MQT below g (qI K) E args s h0) (F0 m 24 ls [])) (hw : w_X7_seek_J78 g v0 v1 v2 v3 v4 s0 s1 K E L24 h) (hR : HS g s h H locs) (hl : lv_has ls 5 [(0, va_rf v0), (1, va_rf v1), (2, va_rf v2), (3, .int v3), (4, .int v4)]) : W p l e (RM 11 h0) s m args below meth c H locs cells slots (MQT below g (qI K) E args s h0) (F0 m 78 ls [.int s0, va_rf s1]) := by
  have hx := X.hx
  have hb := X.hb
  unfold w_X7_seek_J78 at hw
  refine lv_iconst (v := 0) hx hb dX7_seek_78 (by decide) ?_
  exact t_X7_seek_J79 X k24 hw hR (lv_sub hl [0, 1, 2, 3, 4] rfl)
theorem t_X7_seek_L24 {p : Program} {l : Launch} {e : Env} {s : State} {m : MethodId} {args : Array Value} {below : List Frame} {meth : Method} {c : Code} {g : GT} {h0 : AH} {v0 : Option Nat} {v1 : Option Nat} {v2 : Option Nat} {v3 : Int32} {K : Int32 → AH → Prop} {E : Nat → AH → Prop} (X : Cx g h0 p s m args meth c RX7 cX7_seek 5 (Option.some Jvm.ClassFile.FieldType.int))  : ∀ (n : Nat) {v4 : Int32} {h : AH} {H : Heap} {locs : List Loc} {cells slots : Nat} {ls : Array Slot}, LpN1 (w_X7_seek_L24 g v0 v1 v2 v3 K E) n v4 h → HS g s h H locs → lv_has ls 5 [(0, va_rf v0), (1, va_rf v1), (2, va_rf v2), (3, .int v3), (4, .int v4)] → W p l e (RM 11 h0) s m args below meth c H locs cells slots (MQT below g (qI K) E args s h0) (F0 m 24 ls []) := by
  have hx := X.hx
  have hb := X.hb
  intro n
  induction n with
  | zero =>
    intro v4 h H locs cells slots ls hw
    exact hw.elim
  | succ n k24 =>
    intro v4 h H locs cells slots ls hw hR hl
    have hw : w_X7_seek_L24 g v0 v1 v2 v3 K E (LpN1 (w_X7_seek_L24 g v0 v1 v2 v3 K E) n) v4 h := hw
    unfold w_X7_seek_L24 at hw
    refine lv_iload hx hb dX7_seek_24 (lv_at hl 4 rfl) ?_
    refine r_aload_n X dX7_seek_26 rfl (lv_at hl 1 rfl) ?_
    refine r_gI X hR fk_X7_37 dX7_seek_27 hw (fun x1 hw => ?_)
    refine lv_icmp_ge (tgt := 86) hx hb dX7_seek_30 (by decide) (fun c2 => ?_) (fun c2 => ?_)
    · have hw := hw.1 c2
      refine r_aload_n X dX7_seek_86 rfl (lv_at hl 0 rfl) ?_
      refine lv_iconst (v := 0) hx hb dX7_seek_87 (by decide) ?_
      refine lv_iconst (v := 0) hx hb dX7_seek_88 (by decide) ?_
      refine r_callV X hR (c_V (ci := 7) (q := (RX7, TX7, 7)) X hR hl.1 (c_X7_tries 8 l g v0 0 0) (lw_V q1320 q1322 qs39 q124 q1323) rfl rfl mh_X7_tries rfl (by decide) (by decide) rfl (cat4 (Nat.le_of_ble_eq_true rfl)) dX7_seek_89 hw) (fun _ h H locs cells slots hR hw => ?_)
      refine r_aload_n X dX7_seek_92 rfl (lv_at hl 0 rfl) ?_
      refine r_gI X hR fk_X7_34 dX7_seek_93 hw (fun x3 hw => ?_)
      refine lv_ldc hx hb X.hown (X.hts _ q1310) dX7_seek_96 ?_
      refine lv_icmp_ne (tgt := 106) hx hb dX7_seek_98 (by decide) (fun c4 => ?_) (fun c4 => ?_)
      · have hw := hw.1 c4
        refine r_aload_n X dX7_seek_106 rfl (lv_at hl 0 rfl) ?_
        refine r_gI X hR fk_X7_34 dX7_seek_107 hw (fun x5 hw => ?_)
        exact r_iret X hR dX7_seek_110 hw
      · have hw := hw.2 c4
        refine lv_bipush (v := (-2)) hx hb dX7_seek_101 (by decide) ?_
        refine lv_goto (tgt := 110) hx hb dX7_seek_103 (by decide) ?_
        exact r_iret X hR dX7_seek_110 hw
    · have hw := hw.2 c2
      refine r_aload_n X dX7_seek_33 rfl (lv_at hl 0 rfl) ?_
      refine r_gR X hR fk_X7_18 dX7_seek_34 hw (fun x6 hw => ?_)
      refine lv_iload hx hb dX7_seek_37 (lv_at hl 4 rfl) ?_
      refine r_aload_n X dX7_seek_39 rfl (lv_at hl 2 rfl) ?_
      refine r_gR X hR fk_X7_42 dX7_seek_40 hw (fun x7 hw => ?_)
      refine lv_iload hx hb dX7_seek_43 (lv_at hl 4 rfl) ?_
      refine r_iald X hR dX7_seek_45 hw (fun x8 hw => ?_)
      refine lv_bipush (v := (-2)) hx hb dX7_seek_46 (by decide) ?_
      refine lv_icmp_eq (tgt := 78) hx hb dX7_seek_48 (by decide) (fun c9 => ?_) (fun c9 => ?_)
      · have hw := hw.1 c9
        exact t_X7_seek_J78 X k24 hw hR (lv_sub hl [0, 1, 2, 3, 4] rfl)
      · have hw := hw.2 c9
        refine lv_iload_n hx hb dX7_seek_51 rfl (lv_at hl 3 rfl) ?_
        refine r_aload_n X dX7_seek_52 rfl (lv_at hl 2 rfl) ?_
        refine r_gR X hR fk_X7_42 dX7_seek_53 hw (fun x11 hw => ?_)
        refine lv_iload hx hb dX7_seek_56 (lv_at hl 4 rfl) ?_
        refine r_iald X hR dX7_seek_58 hw (fun x12 hw => ?_)
        refine r_callI X hR (c_SN X hR hl.1 (c_X1_has l g v3 x12) (lw_meth q1126) q1311 q115 q1125 mh_X1_has rfl (by decide) (by decide) rfl (cat4 (Nat.le_of_ble_eq_true rfl)) dX7_seek_59 hw) (fun x13 h H locs cells slots hR hw => ?_)
        refine lv_if_eq (tgt := 78) hx hb dX7_seek_62 (by decide) (fun c14 => ?_) (fun c14 => ?_)
        · have hw := hw.1 c14
          exact t_X7_seek_J78 X k24 hw hR (lv_sub hl [0, 1, 2, 3, 4] rfl)
        · have hw := hw.2 c14
          refine r_aload_n X dX7_seek_65 rfl (lv_at hl 1 rfl) ?_
          refine r_gR X hR fk_X7_51 dX7_seek_66 hw (fun x15 hw => ?_)
          refine lv_iload hx hb dX7_seek_69 (lv_at hl 4 rfl) ?_
          refine r_aald X hR (t := 6) (by decide) (by decide) dX7_seek_71 hw (fun x16 hw => ?_)
          refine r_callI X hR (r_letRun (qq := qI) hw (fun K18 hw => Or.elim hw (fun hw => c_U (C := "UmbrellaHeir$Silk") (owner := "UmbrellaHeir$Umbrella") (x := ⟨"UmbrellaHeir$Umbrella", "room", "()I"⟩) (ci := 16) (q := (RX16, TY16, 5)) X hR hl.1 (c_X15_room l g x16) rfl rfl (va_cwU (C := "UmbrellaHeir$Silk") (owner := "UmbrellaHeir$Umbrella") (x := ⟨"UmbrellaHeir$Umbrella", "room", "()I"⟩) (y := yX15_room) 0 X.hts (lw_app (List.forall_mem_cons.mpr ⟨q1312, List.forall_mem_cons.mpr ⟨q1314, List.forall_mem_cons.mpr ⟨q1317, List.forall_mem_cons.mpr ⟨q1313, List.forall_mem_cons.mpr ⟨q137, fun _ h => absurd h List.not_mem_nil⟩⟩⟩⟩⟩) (lw_meth q1319)) rfl rfl rfl rfl ⟨by decide +kernel, by decide +kernel, by decide +kernel⟩ (rm_ok (by decide) (by decide))) rfl rfl (cat4 (Nat.le_of_ble_eq_true rfl)) dX7_seek_72 hw) (fun hw => Or.elim hw (fun hw => c_U (C := "UmbrellaHeir$Cotton") (owner := "UmbrellaHeir$Umbrella") (x := ⟨"UmbrellaHeir$Umbrella", "room", "()I"⟩) (ci := 17) (q := (RX17, TY17, 5)) X hR hl.1 (c_X15_room l g x16) rfl rfl (va_cwU (C := "UmbrellaHeir$Cotton") (owner := "UmbrellaHeir$Umbrella") (x := ⟨"UmbrellaHeir$Umbrella", "room", "()I"⟩) (y := yX15_room) 0 X.hts (lw_app (List.forall_mem_cons.mpr ⟨q1312, List.forall_mem_cons.mpr ⟨q1314, List.forall_mem_cons.mpr ⟨q1315, List.forall_mem_cons.mpr ⟨q1313, List.forall_mem_cons.mpr ⟨q137, fun _ h => absurd h List.not_mem_nil⟩⟩⟩⟩⟩) (lw_meth q1319)) rfl rfl rfl rfl ⟨by decide +kernel, by decide +kernel, by decide +kernel⟩ (rm_ok (by decide) (by decide))) rfl rfl (cat4 (Nat.le_of_ble_eq_true rfl)) dX7_seek_72 hw) (fun hw => Or.elim hw (fun hw => c_U (C := "UmbrellaHeir$Stick") (owner := "UmbrellaHeir$Umbrella") (x := ⟨"UmbrellaHeir$Umbrella", "room", "()I"⟩) (ci := 18) (q := (RX18, TY18, 5)) X hR hl.1 (c_X15_room l g x16) rfl rfl (va_cwU (C := "UmbrellaHeir$Stick") (owner := "UmbrellaHeir$Umbrella") (x := ⟨"UmbrellaHeir$Umbrella", "room", "()I"⟩) (y := yX15_room) 0 X.hts (lw_app (List.forall_mem_cons.mpr ⟨q1312, List.forall_mem_cons.mpr ⟨q1314, List.forall_mem_cons.mpr ⟨q1318, List.forall_mem_cons.mpr ⟨q1313, List.forall_mem_cons.mpr ⟨q137, fun _ h => absurd h List.not_mem_nil⟩⟩⟩⟩⟩) (lw_meth q1319)) rfl rfl rfl rfl ⟨by decide +kernel, by decide +kernel, by decide +kernel⟩ (rm_ok (by decide) (by decide))) rfl rfl (cat4 (Nat.le_of_ble_eq_true rfl)) dX7_seek_72 hw) (fun hw => c_U (C := "UmbrellaHeir$Parasol") (owner := "UmbrellaHeir$Umbrella") (x := ⟨"UmbrellaHeir$Umbrella", "room", "()I"⟩) (ci := 19) (q := (RX19, TY19, 5)) X hR hl.1 (c_X15_room l g x16) rfl rfl (va_cwU (C := "UmbrellaHeir$Parasol") (owner := "UmbrellaHeir$Umbrella") (x := ⟨"UmbrellaHeir$Umbrella", "room", "()I"⟩) (y := yX15_room) 0 X.hts (lw_app (List.forall_mem_cons.mpr ⟨q1312, List.forall_mem_cons.mpr ⟨q1314, List.forall_mem_cons.mpr ⟨q1316, List.forall_mem_cons.mpr ⟨q1313, List.forall_mem_cons.mpr ⟨q137, fun _ h => absurd h List.not_mem_nil⟩⟩⟩⟩⟩) (lw_meth q1319)) rfl rfl rfl rfl ⟨by decide +kernel, by decide +kernel, by decide +kernel⟩ (rm_ok (by decide) (by decide))) rfl rfl (cat4 (Nat.le_of_ble_eq_true rfl)) dX7_seek_72 hw))))) (fun x17 h H locs cells slots hR hw => ?_)
          refine lv_goto (tgt := 79) hx hb dX7_seek_75 (by decide) ?_
          exact t_X7_seek_J79 X k24 hw hR (lv_sub hl [0, 1, 2, 3, 4] rfl)
theorem c_X7_seek (l : Launch) (g : GT) (v0 : Option Nat) (v1 : Option Nat) (v2 : Option Nat) (v3 : Int32) : CT qI l yX7_seek (ws_ yX7_seek cX7_seek 5 (Option.some Jvm.ClassFile.FieldType.int)) 11 g [va_rf v0, va_rf v1, va_rf v2, .int v3] (fun K E h => w_X7_seek g v0 v1 v2 v3 K E h) := by
  refine CT_of (lv := [(0, va_rf v0), (1, va_rf v1), (2, va_rf v2), (3, .int v3)]) (by decide +kernel) (by simp [lg_sl, cat_rf, cat_int, cat_long]) (by simp [lv_args, cat_rf, cat_int, cat_long]) (fun h0 K E p e s m args below meth c H locs cells slots ls X hxt hmn hw hR hl => ?_)
  have hx := X.hx
  have hb := X.hb
  unfold w_X7_seek at hw
  refine r_aload_n X dX7_seek_0 rfl (lv_at hl 0 rfl) ?_
  refine r_aload_n X dX7_seek_1 rfl (lv_at hl 1 rfl) ?_
  refine r_put X hR fp_X7_21 (Or.inl fn_X7_21) (nf_obj _ _) dX7_seek_2 hw (fun H locs h hR hw => ?_)
  refine r_aload_n X dX7_seek_5 rfl (lv_at hl 0 rfl) ?_
  refine r_aload_n X dX7_seek_6 rfl (lv_at hl 2 rfl) ?_
  refine r_put X hR fp_X7_25 (Or.inl fn_X7_25) (nf_obj _ _) dX7_seek_7 hw (fun H locs h hR hw => ?_)
  refine r_aload_n X dX7_seek_10 rfl (lv_at hl 0 rfl) ?_
  refine lv_iload_n hx hb dX7_seek_11 rfl (lv_at hl 3 rfl) ?_
  refine r_put X hR fp_X7_29 (Or.inl fn_X7_29) (nf_int _) dX7_seek_12 hw (fun H locs h hR hw => ?_)
  refine r_aload_n X dX7_seek_15 rfl (lv_at hl 0 rfl) ?_
  refine lv_ldc hx hb X.hown (X.hts _ q1310) dX7_seek_16 ?_
  refine r_put X hR fp_X7_34 (Or.inl fn_X7_34) (nf_int _) dX7_seek_18 hw (fun H locs h hR hw => ?_)
  refine lv_iconst (v := 0) hx hb dX7_seek_21 (by decide) ?_
  refine lv_istore (i := 4) (lv' := [(4, .int 0), (0, va_rf v0), (1, va_rf v1), (2, va_rf v2), (3, .int v3)]) hx hb dX7_seek_22 hl (by decide) rfl (fun ls hl => ?_)
  obtain ⟨n, hw⟩ := hw
  exact t_X7_seek_L24 X  n hw hR (lv_sub hl [1, 2, 3, 4, 0] rfl)
theorem t_X1_guest_J103 {p : Program} {l : Launch} {e : Env} {s : State} {m : MethodId} {args : Array Value} {below : List Frame} {meth : Method} {c : Code} {g : GT} {h0 : AH} {v0 : Option Nat} {v1 : Int32} {v2 : Int32} {v3 : Int32} {v4 : Int32} {K : Int32 → AH → Prop} {E : Nat → AH → Prop} {L26 : Int32 → Int32 → Int32 → AH → Prop} {h : AH} {H : Heap} {locs : List Loc} {cells slots : Nat} {ls : Array Slot} (X : Cx g h0 p s m args meth c RX1 cX1_guest 6 (Option.some Jvm.ClassFile.FieldType.int)) (k26 : ∀ {v2' : Int32} {v3' : Int32} {v4' : Int32} {h : AH} {H : Heap} {locs : List Loc} {cells slots : Nat} {ls : Array Slot}, L26 v2' v3' v4' h → HS g s h H locs → lv_has ls 6 [(0, va_rf v0), (1, .int v1), (2, .int (v2')), (3, .int (v3')), (4, .int (v4'))] → W p l e (RM 12 h0) s m args below meth c H locs cells slots (MQT below g (qI K) E args s h0) (F0 m 26 ls [])) (hw : w_X1_guest_J103 g v0 v1 v2 v3 v4 K E L26 h) (hR : HS g s h H locs) (hl : lv_has ls 6 [(0, va_rf v0), (1, .int v1), (2, .int v2), (3, .int v3), (4, .int v4)]) : W p l e (RM 12 h0) s m args below meth c H locs cells slots (MQT below g (qI K) E args s h0) (F0 m 103 ls []) := by
  have hx := X.hx
  have hb := X.hb
  unfold w_X1_guest_J103 at hw
  refine r_iinc X (k := 4) (v := (v4 + 1)) (lv' := fun x13 => [(4, .int x13), (0, va_rf v0), (1, .int v1), (2, .int v2), (3, .int v3)]) dX1_guest_103 hl rfl rfl (by decide) hw (fun _ => rfl) (fun x13 hw ls hl => ?_)
  refine lv_goto (tgt := 26) hx hb dX1_guest_106 (by decide) ?_
  exact k26 hw hR (lv_sub hl [1, 2, 3, 4, 0] rfl)
theorem t_X1_guest_J97 {p : Program} {l : Launch} {e : Env} {s : State} {m : MethodId} {args : Array Value} {below : List Frame} {meth : Method} {c : Code} {g : GT} {h0 : AH} {v0 : Option Nat} {v1 : Int32} {v4 : Int32} {v5 : Int32} {K : Int32 → AH → Prop} {E : Nat → AH → Prop} {L26 : Int32 → Int32 → Int32 → AH → Prop} {h : AH} {H : Heap} {locs : List Loc} {cells slots : Nat} {ls : Array Slot} (X : Cx g h0 p s m args meth c RX1 cX1_guest 6 (Option.some Jvm.ClassFile.FieldType.int)) (k26 : ∀ {v2' : Int32} {v3' : Int32} {v4' : Int32} {h : AH} {H : Heap} {locs : List Loc} {cells slots : Nat} {ls : Array Slot}, L26 v2' v3' v4' h → HS g s h H locs → lv_has ls 6 [(0, va_rf v0), (1, .int v1), (2, .int (v2')), (3, .int (v3')), (4, .int (v4'))] → W p l e (RM 12 h0) s m args below meth c H locs cells slots (MQT below g (qI K) E args s h0) (F0 m 26 ls [])) (hw : w_X1_guest_J97 g v0 v1 v4 v5 K E L26 h) (hR : HS g s h H locs) (hl : lv_has ls 6 [(0, va_rf v0), (1, .int v1), (4, .int v4), (5, .int v5)]) : W p l e (RM 12 h0) s m args below meth c H locs cells slots (MQT below g (qI K) E args s h0) (F0 m 97 ls []) := by
  have hx := X.hx
  have hb := X.hb
  unfold w_X1_guest_J97 at hw
  refine lv_iload hx hb dX1_guest_97 (lv_at hl 2 rfl) ?_
  refine lv_istore_n (i := 2) (lv' := [(2, .int v4), (0, va_rf v0), (1, .int v1), (4, .int v4), (5, .int v5)]) hx hb dX1_guest_99 rfl hl (by decide) rfl (fun ls hl => ?_)
  refine lv_iload hx hb dX1_guest_100 (lv_at hl 4 rfl) ?_
  refine lv_istore_n (i := 3) (lv' := [(3, .int v5), (2, .int v4), (0, va_rf v0), (1, .int v1), (4, .int v4), (5, .int v5)]) hx hb dX1_guest_102 rfl hl (by decide) rfl (fun ls hl => ?_)
  exact t_X1_guest_J103 X k26 hw hR (lv_sub hl [2, 3, 1, 0, 4] rfl)
theorem t_X1_guest_J73 {p : Program} {l : Launch} {e : Env} {s : State} {m : MethodId} {args : Array Value} {below : List Frame} {meth : Method} {c : Code} {g : GT} {h0 : AH} {v0 : Option Nat} {v1 : Int32} {v2 : Int32} {v3 : Int32} {v4 : Int32} {s0 : Int32} {K : Int32 → AH → Prop} {E : Nat → AH → Prop} {L26 : Int32 → Int32 → Int32 → AH → Prop} {h : AH} {H : Heap} {locs : List Loc} {cells slots : Nat} {ls : Array Slot} (X : Cx g h0 p s m args meth c RX1 cX1_guest 6 (Option.some Jvm.ClassFile.FieldType.int)) (k26 : ∀ {v2' : Int32} {v3' : Int32} {v4' : Int32} {h : AH} {H : Heap} {locs : List Loc} {cells slots : Nat} {ls : Array Slot}, L26 v2' v3' v4' h → HS g s h H locs → lv_has ls 6 [(0, va_rf v0), (1, .int v1), (2, .int (v2')), (3, .int (v3')), (4, .int (v4'))] → W p l e (RM 12 h0) s m args below meth c H locs cells slots (MQT below g (qI K) E args s h0) (F0 m 26 ls [])) (hw : w_X1_guest_J73 g v0 v1 v2 v3 v4 s0 K E L26 h) (hR : HS g s h H locs) (hl : lv_has ls 6 [(0, va_rf v0), (1, .int v1), (2, .int v2), (3, .int v3), (4, .int v4)]) : W p l e (RM 12 h0) s m args below meth c H locs cells slots (MQT below g (qI K) E args s h0) (F0 m 73 ls [.int s0]) := by
  have hx := X.hx
  have hb := X.hb
  unfold w_X1_guest_J73 at hw
  refine lv_istore (i := 5) (lv' := [(5, .int s0), (0, va_rf v0), (1, .int v1), (2, .int v2), (3, .int v3), (4, .int v4)]) hx hb dX1_guest_73 hl (by decide) rfl (fun ls hl => ?_)
  refine lv_iload hx hb dX1_guest_75 (lv_at hl 0 rfl) ?_
  refine lv_bipush (v := (-2)) hx hb dX1_guest_77 (by decide) ?_
  refine lv_icmp_eq (tgt := 103) hx hb dX1_guest_79 (by decide) (fun c12 => ?_) (fun c12 => ?_)
  · have hw := hw.1 c12
    exact t_X1_guest_J103 X k26 hw hR (lv_sub hl [1, 2, 3, 4, 5] rfl)
  · have hw := hw.2 c12
    refine lv_iload_n hx hb dX1_guest_82 rfl (lv_at hl 3 rfl) ?_
    refine lv_bipush (v := (-2)) hx hb dX1_guest_83 (by decide) ?_
    refine lv_icmp_eq (tgt := 97) hx hb dX1_guest_85 (by decide) (fun c14 => ?_) (fun c14 => ?_)
    · have hw := hw.1 c14
      exact t_X1_guest_J97 X k26 hw hR (lv_sub hl [1, 2, 5, 0] rfl)
    · have hw := hw.2 c14
      refine lv_iload hx hb dX1_guest_88 (lv_at hl 0 rfl) ?_
      refine lv_iload_n hx hb dX1_guest_90 rfl (lv_at hl 4 rfl) ?_
      refine lv_icmp_lt (tgt := 97) hx hb dX1_guest_91 (by decide) (fun c15 => ?_) (fun c15 => ?_)
      · have hw := hw.1 c15
        exact t_X1_guest_J97 X k26 hw hR (lv_sub hl [1, 2, 5, 0] rfl)
      · have hw := hw.2 c15
        refine lv_goto (tgt := 103) hx hb dX1_guest_94 (by decide) ?_
        exact t_X1_guest_J103 X k26 hw hR (lv_sub hl [1, 2, 3, 4, 5] rfl)
theorem t_X1_guest_L26 {p : Program} {l : Launch} {e : Env} {s : State} {m : MethodId} {args : Array Value} {below : List Frame} {meth : Method} {c : Code} {g : GT} {h0 : AH} {v0 : Option Nat} {v1 : Int32} {K : Int32 → AH → Prop} {E : Nat → AH → Prop} (X : Cx g h0 p s m args meth c RX1 cX1_guest 6 (Option.some Jvm.ClassFile.FieldType.int))  : ∀ (n : Nat) {v2 : Int32} {v3 : Int32} {v4 : Int32} {h : AH} {H : Heap} {locs : List Loc} {cells slots : Nat} {ls : Array Slot}, LpN3 (w_X1_guest_L26 g v0 v1 K E) n v2 v3 v4 h → HS g s h H locs → lv_has ls 6 [(0, va_rf v0), (1, .int v1), (2, .int v2), (3, .int v3), (4, .int v4)] → W p l e (RM 12 h0) s m args below meth c H locs cells slots (MQT below g (qI K) E args s h0) (F0 m 26 ls []) := by
  have hx := X.hx
  have hb := X.hb
  intro n
  induction n with
  | zero =>
    intro v2 v3 v4 h H locs cells slots ls hw
    exact hw.elim
  | succ n k26 =>
    intro v2 v3 v4 h H locs cells slots ls hw hR hl
    have hw : w_X1_guest_L26 g v0 v1 K E (LpN3 (w_X1_guest_L26 g v0 v1 K E) n) v2 v3 v4 h := hw
    unfold w_X1_guest_L26 at hw
    refine lv_iload hx hb dX1_guest_26 (lv_at hl 4 rfl) ?_
    refine r_aload_n X dX1_guest_28 rfl (lv_at hl 0 rfl) ?_
    refine r_gR X hR fk_X1_102 dX1_guest_29 hw (fun x3 hw => ?_)
    refine r_gI X hR fk_X1_131 dX1_guest_32 hw (fun x4 hw => ?_)
    refine lv_icmp_ge (tgt := 109) hx hb dX1_guest_35 (by decide) (fun c5 => ?_) (fun c5 => ?_)
    · have hw := hw.1 c5
      refine lv_iload_n hx hb dX1_guest_109 rfl (lv_at hl 2 rfl) ?_
      exact r_iret X hR dX1_guest_110 hw
    · have hw := hw.2 c5
      refine lv_iload_n hx hb dX1_guest_38 rfl (lv_at hl 1 rfl) ?_
      refine lv_iload hx hb dX1_guest_39 (lv_at hl 4 rfl) ?_
      refine r_callI X hR (c_S X hR hl.1 (c_X1_has l g v1 v4) (lw_S q1305 q1125 q115 q1126) mh_X1_has rfl (by decide) (by decide) rfl (cat4 (Nat.le_of_ble_eq_true rfl)) dX1_guest_41 hw) (fun x6 h H locs cells slots hR hw => ?_)
      refine lv_if_eq (tgt := 52) hx hb dX1_guest_44 (by decide) (fun c7 => ?_) (fun c7 => ?_)
      · have hw := hw.1 c7
        refine r_aload_n X dX1_guest_52 rfl (lv_at hl 0 rfl) ?_
        refine r_gR X hR fk_X1_63 dX1_guest_53 hw (fun x8 hw => ?_)
        refine r_aload_n X dX1_guest_56 rfl (lv_at hl 0 rfl) ?_
        refine r_gR X hR fk_X1_102 dX1_guest_57 hw (fun x9 hw => ?_)
        refine r_aload_n X dX1_guest_60 rfl (lv_at hl 0 rfl) ?_
        refine r_gR X hR fk_X1_33 dX1_guest_61 hw (fun x10 hw => ?_)
        refine lv_iload_n hx hb dX1_guest_64 rfl (lv_at hl 1 rfl) ?_
        refine lv_iconst (v := 1) hx hb dX1_guest_65 (by decide) ?_
        refine lv_iload hx hb dX1_guest_66 (lv_at hl 4 rfl) ?_
        refine lv_ishl hx hb dX1_guest_68 ?_
        refine lv_ior hx hb dX1_guest_69 ?_
        refine r_callI X hR (c_V (ci := 7) (q := (RX7, TX7, 7)) X hR hl.1 (c_X7_seek l g x8 x9 x10 (v1 ||| (1 <<< (v4 &&& 31)))) (lw_V q1306 q1307 q1308 q124 q1309) rfl rfl mh_X7_seek rfl (by decide) (by decide) rfl (cat4 (Nat.le_of_ble_eq_true rfl)) dX1_guest_70 hw) (fun x11 h H locs cells slots hR hw => ?_)
        exact t_X1_guest_J73 X k26 hw hR (lv_sub hl [0, 1, 2, 3, 4] rfl)
      · have hw := hw.2 c7
        refine lv_bipush (v := (-2)) hx hb dX1_guest_47 (by decide) ?_
        refine lv_goto (tgt := 73) hx hb dX1_guest_49 (by decide) ?_
        exact t_X1_guest_J73 X k26 hw hR (lv_sub hl [0, 1, 2, 3, 4] rfl)
theorem c_X1_guest (l : Launch) (g : GT) (v0 : Option Nat) (v1 : Int32) : CT qI l yX1_guest (ws_ yX1_guest cX1_guest 6 (Option.some Jvm.ClassFile.FieldType.int)) 12 g [va_rf v0, .int v1] (fun K E h => w_X1_guest g v0 v1 K E h) := by
  refine CT_of (lv := [(0, va_rf v0), (1, .int v1)]) (by decide +kernel) (by simp [lg_sl, cat_rf, cat_int, cat_long]) (by simp [lv_args, cat_rf, cat_int, cat_long]) (fun h0 K E p e s m args below meth c H locs cells slots ls X hxt hmn hw hR hl => ?_)
  have hx := X.hx
  have hb := X.hb
  unfold w_X1_guest at hw
  refine r_aload_n X dX1_guest_0 rfl (lv_at hl 0 rfl) ?_
  refine r_callV X hR (c_V (ci := 1) (q := (RX1, TX1, 21)) X hR hl.1 (c_X1_anew l g v0) (lw_V q455 q457 qs2 q115 q458) rfl rfl mh_X1_anew rfl (by decide) (by decide) rfl (cat4 (Nat.le_of_ble_eq_true rfl)) dX1_guest_1 hw) (fun _ h H locs cells slots hR hw => ?_)
  refine r_aload_n X dX1_guest_4 rfl (lv_at hl 0 rfl) ?_
  refine lv_iload_n hx hb dX1_guest_5 rfl (lv_at hl 1 rfl) ?_
  refine r_callI X hR (c_V (ci := 1) (q := (RX1, TX1, 21)) X hR hl.1 (c_X1_arePeople l g v0 v1) (lw_V q1301 q1303 qs38 q115 q1304) rfl rfl mh_X1_arePeople rfl (by decide) (by decide) rfl (cat4 (Nat.le_of_ble_eq_true rfl)) dX1_guest_6 hw) (fun x1 h H locs cells slots hR hw => ?_)
  refine lv_if_ne (tgt := 18) hx hb dX1_guest_9 (by decide) (fun c2 => ?_) (fun c2 => ?_)
  · have hw := hw.1 c2
    refine lv_bipush (v := (-2)) hx hb dX1_guest_18 (by decide) ?_
    refine lv_istore_n (i := 2) (lv' := [(2, .int (-2)), (0, va_rf v0), (1, .int v1)]) hx hb dX1_guest_20 rfl hl (by decide) rfl (fun ls hl => ?_)
    refine lv_iconst (v := 0) hx hb dX1_guest_21 (by decide) ?_
    refine lv_istore_n (i := 3) (lv' := [(3, .int 0), (2, .int (-2)), (0, va_rf v0), (1, .int v1)]) hx hb dX1_guest_22 rfl hl (by decide) rfl (fun ls hl => ?_)
    refine lv_iconst (v := 0) hx hb dX1_guest_23 (by decide) ?_
    refine lv_istore (i := 4) (lv' := [(4, .int 0), (3, .int 0), (2, .int (-2)), (0, va_rf v0), (1, .int v1)]) hx hb dX1_guest_24 hl (by decide) rfl (fun ls hl => ?_)
    obtain ⟨n, hw⟩ := hw
    exact t_X1_guest_L26 X  n hw hR (lv_sub hl [3, 4, 2, 1, 0] rfl)
  · have hw := hw.2 c2
    refine r_aload_n X dX1_guest_12 rfl (lv_at hl 0 rfl) ?_
    refine lv_iconst (v := 1) hx hb dX1_guest_13 (by decide) ?_
    refine r_callI X hR (c_V (ci := 1) (q := (RX1, TX1, 21)) X hR hl.1 (c_X1_no l g v0 1) (lw_V q462 q464 qs3 q115 q465) rfl rfl mh_X1_no rfl (by decide) (by decide) rfl (cat4 (Nat.le_of_ble_eq_true rfl)) dX1_guest_14 hw) (fun x16 h H locs cells slots hR hw => ?_)
    exact r_iret X hR dX1_guest_17 hw
theorem t_X6_tries_J163 {p : Program} {l : Launch} {e : Env} {s : State} {m : MethodId} {args : Array Value} {below : List Frame} {meth : Method} {c : Code} {g : GT} {h0 : AH} {rc : GT → Option Nat → Int32 → Int32 → (Unit → AH → Prop) → (Nat → AH → Prop) → AH → Prop} {D' : Nat} {v0 : Option Nat} {v1 : Int32} {v2 : Int32} {v3 : Int32} {v4 : Int32} {K : Unit → AH → Prop} {E : Nat → AH → Prop} {L70 : Int32 → AH → Prop} {h : AH} {H : Heap} {locs : List Loc} {cells slots : Nat} {ls : Array Slot} (X : Cx g h0 p s m args meth c RX6 cX6_tries 5 none) (hrc : ∀ (v0 : Option Nat) (v1 : Int32) (v2 : Int32), CT qV l yX6_tries (ws_ yX6_tries cX6_tries 5 none) D' g [va_rf v0, .int v1, .int v2] (fun K E h => rc g v0 v1 v2 K E h)) (hD : 2 ≤ D') (k70 : ∀ {v4' : Int32} {h : AH} {H : Heap} {locs : List Loc} {cells slots : Nat} {ls : Array Slot}, L70 v4' h → HS g s h H locs → lv_has ls 5 [(0, va_rf v0), (1, .int v1), (2, .int v2), (3, .int v3), (4, .int (v4'))] → W p l e (RM (D' + 1) h0) s m args below meth c H locs cells slots (MQT below g (qV K) E args s h0) (F0 m 70 ls [])) (hw : w_X6_tries_J163 rc g v0 v1 v2 v3 v4 K E L70 h) (hR : HS g s h H locs) (hl : lv_has ls 5 [(0, va_rf v0), (1, .int v1), (2, .int v2), (3, .int v3), (4, .int v4)]) : W p l e (RM (D' + 1) h0) s m args below meth c H locs cells slots (MQT below g (qV K) E args s h0) (F0 m 163 ls []) := by
  have hx := X.hx
  have hb := X.hb
  unfold w_X6_tries_J163 at hw
  refine r_iinc X (k := 4) (v := (v4 + 1)) (lv' := fun x26 => [(4, .int x26), (0, va_rf v0), (1, .int v1), (2, .int v2), (3, .int v3)]) dX6_tries_163 hl rfl rfl (by decide) hw (fun _ => rfl) (fun x26 hw ls hl => ?_)
  refine lv_goto (tgt := 70) hx hb dX6_tries_166 (by decide) ?_
  exact k70 hw hR (lv_sub hl [1, 2, 3, 4, 0] rfl)
theorem t_X6_tries_L70 {p : Program} {l : Launch} {e : Env} {s : State} {m : MethodId} {args : Array Value} {below : List Frame} {meth : Method} {c : Code} {g : GT} {h0 : AH} {rc : GT → Option Nat → Int32 → Int32 → (Unit → AH → Prop) → (Nat → AH → Prop) → AH → Prop} {D' : Nat} {v0 : Option Nat} {v1 : Int32} {v2 : Int32} {v3 : Int32} {K : Unit → AH → Prop} {E : Nat → AH → Prop} {L54 : Int32 → AH → Prop} (X : Cx g h0 p s m args meth c RX6 cX6_tries 5 none) (hrc : ∀ (v0 : Option Nat) (v1 : Int32) (v2 : Int32), CT qV l yX6_tries (ws_ yX6_tries cX6_tries 5 none) D' g [va_rf v0, .int v1, .int v2] (fun K E h => rc g v0 v1 v2 K E h)) (hD : 2 ≤ D') (k54 : ∀ {v3' : Int32} {h : AH} {H : Heap} {locs : List Loc} {cells slots : Nat} {ls : Array Slot}, L54 v3' h → HS g s h H locs → lv_has ls 5 [(0, va_rf v0), (1, .int v1), (2, .int v2), (3, .int (v3'))] → W p l e (RM (D' + 1) h0) s m args below meth c H locs cells slots (MQT below g (qV K) E args s h0) (F0 m 54 ls [])) : ∀ (n : Nat) {v4 : Int32} {h : AH} {H : Heap} {locs : List Loc} {cells slots : Nat} {ls : Array Slot}, LpN1 (w_X6_tries_L70 rc g v0 v1 v2 v3 K E L54) n v4 h → HS g s h H locs → lv_has ls 5 [(0, va_rf v0), (1, .int v1), (2, .int v2), (3, .int v3), (4, .int v4)] → W p l e (RM (D' + 1) h0) s m args below meth c H locs cells slots (MQT below g (qV K) E args s h0) (F0 m 70 ls []) := by
  have hx := X.hx
  have hb := X.hb
  intro n
  induction n with
  | zero =>
    intro v4 h H locs cells slots ls hw
    exact hw.elim
  | succ n k70 =>
    intro v4 h H locs cells slots ls hw hR hl
    have hw : w_X6_tries_L70 rc g v0 v1 v2 v3 K E L54 (LpN1 (w_X6_tries_L70 rc g v0 v1 v2 v3 K E L54) n) v4 h := hw
    unfold w_X6_tries_L70 at hw
    refine lv_iload hx hb dX6_tries_70 (lv_at hl 4 rfl) ?_
    refine r_aload_n X dX6_tries_72 rfl (lv_at hl 0 rfl) ?_
    refine r_gR X hR fk_X6_25 dX6_tries_73 hw (fun x6 hw => ?_)
    refine r_gI X hR fk_X6_57 dX6_tries_76 hw (fun x7 hw => ?_)
    refine lv_icmp_ge (tgt := 169) hx hb dX6_tries_79 (by decide) (fun c8 => ?_) (fun c8 => ?_)
    · have hw := hw.1 c8
      refine r_iinc X (k := 3) (v := (v3 + 1)) (lv' := fun x9 => [(3, .int x9), (0, va_rf v0), (1, .int v1), (2, .int v2), (4, .int v4)]) dX6_tries_169 hl rfl rfl (by decide) hw (fun _ => rfl) (fun x9 hw ls hl => ?_)
      refine lv_goto (tgt := 54) hx hb dX6_tries_172 (by decide) ?_
      exact k54 hw hR (lv_sub hl [1, 2, 3, 0] rfl)
    · have hw := hw.2 c8
      refine r_aload_n X dX6_tries_82 rfl (lv_at hl 0 rfl) ?_
      refine r_gR X hR fk_X6_11 dX6_tries_83 hw (fun x10 hw => ?_)
      refine lv_iload_n hx hb dX6_tries_86 rfl (lv_at hl 1 rfl) ?_
      refine r_aald X hR (t := 4) (by decide) (by decide) dX6_tries_87 hw (fun x11 hw => ?_)
      refine r_gR X hR fk_X6_62 dX6_tries_88 hw (fun x12 hw => ?_)
      refine lv_iload_n hx hb dX6_tries_91 rfl (lv_at hl 3 rfl) ?_
      refine r_iald X hR dX6_tries_92 hw (fun x13 hw => ?_)
      refine r_aload_n X dX6_tries_93 rfl (lv_at hl 0 rfl) ?_
      refine r_gR X hR fk_X6_11 dX6_tries_94 hw (fun x14 hw => ?_)
      refine lv_iload_n hx hb dX6_tries_97 rfl (lv_at hl 1 rfl) ?_
      refine r_aald X hR (t := 4) (by decide) (by decide) dX6_tries_98 hw (fun x15 hw => ?_)
      refine r_gR X hR fk_X6_62 dX6_tries_99 hw (fun x16 hw => ?_)
      refine lv_iload hx hb dX6_tries_102 (lv_at hl 4 rfl) ?_
      refine r_iald X hR dX6_tries_104 hw (fun x17 hw => ?_)
      refine lv_icmp_ne (tgt := 111) hx hb dX6_tries_105 (by decide) (fun c18 => ?_) (fun c18 => ?_)
      · have hw := hw.1 c18
        refine r_aload_n X dX6_tries_111 rfl (lv_at hl 0 rfl) ?_
        refine r_gR X hR fk_X6_11 dX6_tries_112 hw (fun x19 hw => ?_)
        refine lv_iload_n hx hb dX6_tries_115 rfl (lv_at hl 1 rfl) ?_
        refine lv_iconst (v := 1) hx hb dX6_tries_116 (by decide) ?_
        refine lv_iadd hx hb dX6_tries_117 ?_
        refine r_aald X hR (t := 4) (by decide) (by decide) dX6_tries_118 hw (fun x20 hw => ?_)
        refine r_aload_n X dX6_tries_119 rfl (lv_at hl 0 rfl) ?_
        refine r_gR X hR fk_X6_11 dX6_tries_120 hw (fun x21 hw => ?_)
        refine lv_iload_n hx hb dX6_tries_123 rfl (lv_at hl 1 rfl) ?_
        refine r_aald X hR (t := 4) (by decide) (by decide) dX6_tries_124 hw (fun x22 hw => ?_)
        refine r_callV X hR (c_V (ci := 4) (q := (RX4, TX4, 4)) X hR hl.1 (c_X4_become l g x20 x22) (lw_V q1333 q1288 q1289 q121 q1290) rfl rfl mh_X4_become rfl (by omega) (by decide) rfl (cat4 (Nat.le_of_ble_eq_true rfl)) dX6_tries_125 hw) (fun _ h H locs cells slots hR hw => ?_)
        refine r_aload_n X dX6_tries_128 rfl (lv_at hl 0 rfl) ?_
        refine r_gR X hR fk_X6_11 dX6_tries_129 hw (fun x23 hw => ?_)
        refine lv_iload_n hx hb dX6_tries_132 rfl (lv_at hl 1 rfl) ?_
        refine lv_iconst (v := 1) hx hb dX6_tries_133 (by decide) ?_
        refine lv_iadd hx hb dX6_tries_134 ?_
        refine r_aald X hR (t := 4) (by decide) (by decide) dX6_tries_135 hw (fun x24 hw => ?_)
        refine lv_iload_n hx hb dX6_tries_136 rfl (lv_at hl 3 rfl) ?_
        refine lv_iload hx hb dX6_tries_137 (lv_at hl 4 rfl) ?_
        refine r_callV X hR (c_V (ci := 4) (q := (RX4, TX4, 4)) X hR hl.1 (c_X4_change l g x24 v3 v4) (lw_V q1341 q1045 q1046 q121 q1047) rfl rfl mh_X4_change rfl (by omega) (by decide) rfl (cat4 (Nat.le_of_ble_eq_true rfl)) dX6_tries_139 hw) (fun _ h H locs cells slots hR hw => ?_)
        refine r_aload_n X dX6_tries_142 rfl (lv_at hl 0 rfl) ?_
        refine r_gR X hR fk_X6_17 dX6_tries_143 hw (fun x25 hw => ?_)
        refine lv_iload_n hx hb dX6_tries_146 rfl (lv_at hl 1 rfl) ?_
        refine lv_bipush (v := 10) hx hb dX6_tries_147 (by decide) ?_
        refine lv_iload_n hx hb dX6_tries_149 rfl (lv_at hl 3 rfl) ?_
        refine lv_imul hx hb dX6_tries_150 ?_
        refine lv_iload hx hb dX6_tries_151 (lv_at hl 4 rfl) ?_
        refine lv_iadd hx hb dX6_tries_153 ?_
        refine r_iast X hR dX6_tries_154 hw (fun H locs h hR hw => ?_)
        refine r_aload_n X dX6_tries_155 rfl (lv_at hl 0 rfl) ?_
        refine lv_iload_n hx hb dX6_tries_156 rfl (lv_at hl 1 rfl) ?_
        refine lv_iconst (v := 1) hx hb dX6_tries_157 (by decide) ?_
        refine lv_iadd hx hb dX6_tries_158 ?_
        refine lv_iload_n hx hb dX6_tries_159 rfl (lv_at hl 2 rfl) ?_
        refine r_callV X hR (c_V (ci := 6) (q := (RX6, TX6, 6)) X hR hl.1 (hrc v0 (v1 + 1) v2) (lw_V q1334 q1336 qs40 q123 q1337) rfl rfl mh_X6_tries rfl (by omega) (by decide) rfl (cat4 (Nat.le_of_ble_eq_true rfl)) dX6_tries_160 hw) (fun _ h H locs cells slots hR hw => ?_)
        exact t_X6_tries_J163 X hrc hD k70 hw hR (lv_sub hl [0, 1, 2, 3, 4] rfl)
      · have hw := hw.2 c18
        refine lv_goto (tgt := 163) hx hb dX6_tries_108 (by decide) ?_
        exact t_X6_tries_J163 X hrc hD k70 hw hR (lv_sub hl [0, 1, 2, 3, 4] rfl)
theorem t_X6_tries_L54 {p : Program} {l : Launch} {e : Env} {s : State} {m : MethodId} {args : Array Value} {below : List Frame} {meth : Method} {c : Code} {g : GT} {h0 : AH} {rc : GT → Option Nat → Int32 → Int32 → (Unit → AH → Prop) → (Nat → AH → Prop) → AH → Prop} {D' : Nat} {v0 : Option Nat} {v1 : Int32} {v2 : Int32} {K : Unit → AH → Prop} {E : Nat → AH → Prop} (X : Cx g h0 p s m args meth c RX6 cX6_tries 5 none) (hrc : ∀ (v0 : Option Nat) (v1 : Int32) (v2 : Int32), CT qV l yX6_tries (ws_ yX6_tries cX6_tries 5 none) D' g [va_rf v0, .int v1, .int v2] (fun K E h => rc g v0 v1 v2 K E h)) (hD : 2 ≤ D')  : ∀ (n : Nat) {v3 : Int32} {h : AH} {H : Heap} {locs : List Loc} {cells slots : Nat} {ls : Array Slot}, LpN1 (w_X6_tries_L54 rc g v0 v1 v2 K E) n v3 h → HS g s h H locs → lv_has ls 5 [(0, va_rf v0), (1, .int v1), (2, .int v2), (3, .int v3)] → W p l e (RM (D' + 1) h0) s m args below meth c H locs cells slots (MQT below g (qV K) E args s h0) (F0 m 54 ls []) := by
  have hx := X.hx
  have hb := X.hb
  intro n
  induction n with
  | zero =>
    intro v3 h H locs cells slots ls hw
    exact hw.elim
  | succ n k54 =>
    intro v3 h H locs cells slots ls hw hR hl
    have hw : w_X6_tries_L54 rc g v0 v1 v2 K E (LpN1 (w_X6_tries_L54 rc g v0 v1 v2 K E) n) v3 h := hw
    unfold w_X6_tries_L54 at hw
    refine lv_iload_n hx hb dX6_tries_54 rfl (lv_at hl 3 rfl) ?_
    refine r_aload_n X dX6_tries_55 rfl (lv_at hl 0 rfl) ?_
    refine r_gR X hR fk_X6_25 dX6_tries_56 hw (fun x2 hw => ?_)
    refine r_gI X hR fk_X6_57 dX6_tries_59 hw (fun x3 hw => ?_)
    refine lv_icmp_ge (tgt := 175) hx hb dX6_tries_62 (by decide) (fun c4 => ?_) (fun c4 => ?_)
    · have hw := hw.1 c4
      exact r_vret X hR rfl dX6_tries_175 hw
    · have hw := hw.2 c4
      refine lv_iload_n hx hb dX6_tries_65 rfl (lv_at hl 3 rfl) ?_
      refine lv_iconst (v := 1) hx hb dX6_tries_66 (by decide) ?_
      refine lv_iadd hx hb dX6_tries_67 ?_
      refine r_nmI hw (fun x5 hw => ?_)
      refine lv_istore (i := 4) (lv' := [(4, .int x5), (0, va_rf v0), (1, .int v1), (2, .int v2), (3, .int v3)]) hx hb dX6_tries_68 hl (by decide) rfl (fun ls hl => ?_)
      obtain ⟨n, hw⟩ := hw
      exact t_X6_tries_L70 X hrc hD k54 n hw hR (lv_sub hl [1, 2, 3, 4, 0] rfl)
theorem c_X6_tries_B (l : Launch) (g : GT) {rc : GT → Option Nat → Int32 → Int32 → (Unit → AH → Prop) → (Nat → AH → Prop) → AH → Prop} {D' : Nat} (hD : 2 ≤ D') (hrc : ∀ (v0 : Option Nat) (v1 : Int32) (v2 : Int32), CT qV l yX6_tries (ws_ yX6_tries cX6_tries 5 none) D' g [va_rf v0, .int v1, .int v2] (fun K E h => rc g v0 v1 v2 K E h)) (v0 : Option Nat) (v1 : Int32) (v2 : Int32) : CT qV l yX6_tries (ws_ yX6_tries cX6_tries 5 none) (D' + 1) g [va_rf v0, .int v1, .int v2] (fun K E h => w_X6_tries_B rc g v0 v1 v2 K E h) := by
  refine CT_of (lv := [(0, va_rf v0), (1, .int v1), (2, .int v2)]) (by decide +kernel) (by simp [lg_sl, cat_rf, cat_int, cat_long]) (by simp [lv_args, cat_rf, cat_int, cat_long]) (fun h0 K E p e s m args below meth c H locs cells slots ls X hxt hmn hw hR hl => ?_)
  have hx := X.hx
  have hb := X.hb
  unfold w_X6_tries_B at hw
  refine lv_iload_n hx hb dX6_tries_0 rfl (lv_at hl 1 rfl) ?_
  refine lv_iload_n hx hb dX6_tries_1 rfl (lv_at hl 2 rfl) ?_
  refine lv_icmp_ne (tgt := 52) hx hb dX6_tries_2 (by decide) (fun c1 => ?_) (fun c1 => ?_)
  · have hw := hw.1 c1
    refine lv_iconst (v := 0) hx hb dX6_tries_52 (by decide) ?_
    refine lv_istore_n (i := 3) (lv' := [(3, .int 0), (0, va_rf v0), (1, .int v1), (2, .int v2)]) hx hb dX6_tries_53 rfl hl (by decide) rfl (fun ls hl => ?_)
    obtain ⟨n, hw⟩ := hw
    exact t_X6_tries_L54 X hrc hD  n hw hR (lv_sub hl [1, 2, 3, 0] rfl)
  · have hw := hw.2 c1
    refine r_aload_n X dX6_tries_5 rfl (lv_at hl 0 rfl) ?_
    refine r_gR X hR fk_X6_11 dX6_tries_6 hw (fun x27 hw => ?_)
    refine lv_iload_n hx hb dX6_tries_9 rfl (lv_at hl 1 rfl) ?_
    refine r_aald X hR (t := 4) (by decide) (by decide) dX6_tries_10 hw (fun x28 hw => ?_)
    refine r_callI X hR (c_V (ci := 4) (q := (RX4, TX4, 4)) X hR hl.1 (c_X4_right l g x28) (lw_V q1338 q1200 q1201 q121 q1202) rfl rfl mh_X4_right rfl (by omega) (by decide) rfl (cat4 (Nat.le_of_ble_eq_true rfl)) dX6_tries_11 hw) (fun x29 h H locs cells slots hR hw => ?_)
    refine r_callI X hR (c_SN X hR hl.1 (c_X1_ones l g x29) (lw_meth q1123) q1339 q115 q1122 mh_X1_ones rfl (by omega) (by decide) rfl (cat4 (Nat.le_of_ble_eq_true rfl)) dX6_tries_14 hw) (fun x30 h H locs cells slots hR hw => ?_)
    refine lv_istore_n (i := 3) (lv' := [(3, .int x30), (0, va_rf v0), (1, .int v1), (2, .int v2)]) hx hb dX6_tries_17 rfl hl (by decide) rfl (fun ls hl => ?_)
    refine lv_iload_n hx hb dX6_tries_18 rfl (lv_at hl 0 rfl) ?_
    refine r_aload_n X dX6_tries_19 rfl (lv_at hl 1 rfl) ?_
    refine r_gI X hR fk_X6_29 dX6_tries_20 hw (fun x31 hw => ?_)
    refine lv_icmp_gt (tgt := 27) hx hb dX6_tries_23 (by decide) (fun c32 => ?_) (fun c32 => ?_)
    · have hw := hw.1 c32
      refine r_aload_n X dX6_tries_27 rfl (lv_at hl 1 rfl) ?_
      refine lv_iload_n hx hb dX6_tries_28 rfl (lv_at hl 0 rfl) ?_
      refine r_put X hR fp_X6_29 (Or.inl fn_X6_29) (nf_int _) dX6_tries_29 hw (fun H locs h hR hw => ?_)
      refine r_aload_n X dX6_tries_32 rfl (lv_at hl 1 rfl) ?_
      refine lv_iload_n hx hb dX6_tries_33 rfl (lv_at hl 3 rfl) ?_
      refine r_put X hR fp_X6_33 (Or.inl fn_X6_33) (nf_int _) dX6_tries_34 hw (fun H locs h hR hw => ?_)
      refine r_aload_n X dX6_tries_37 rfl (lv_at hl 1 rfl) ?_
      refine r_gR X hR fk_X6_17 dX6_tries_38 hw (fun x33 hw => ?_)
      refine lv_iconst (v := 0) hx hb dX6_tries_41 (by decide) ?_
      refine r_aload_n X dX6_tries_42 rfl (lv_at hl 1 rfl) ?_
      refine r_gR X hR fk_X6_21 dX6_tries_43 hw (fun x34 hw => ?_)
      refine lv_iconst (v := 0) hx hb dX6_tries_46 (by decide) ?_
      refine lv_iconst (v := 3) hx hb dX6_tries_47 (by decide) ?_
      refine r_copy X hl.1 hR q1340 q1129 q1128 q149 (by omega) (cat4 (Nat.le_of_ble_eq_true rfl)) dX6_tries_48 hw (fun H locs h hR hw => ?_)
      exact r_vret X hR rfl dX6_tries_51 hw
    · have hw := hw.2 c32
      exact r_vret X hR rfl dX6_tries_26 hw
theorem c_X6_tries (n : Nat) (l : Launch) (g : GT) : ∀ (v0 : Option Nat) (v1 : Int32) (v2 : Int32), CT qV l yX6_tries (ws_ yX6_tries cX6_tries 5 none) (2 + n) g [va_rf v0, .int v1, .int v2] (fun K E h => w_X6_tries n g v0 v1 v2 K E h) := by
  induction n with
  | zero => exact fun _ _ _ _ _ _ _ _ hw => hw.elim
  | succ n ih => exact fun v0 v1 v2 => c_X6_tries_B l g (by omega) ih v0 v1 v2
theorem t_X6_seek_L27 {p : Program} {l : Launch} {e : Env} {s : State} {m : MethodId} {args : Array Value} {below : List Frame} {meth : Method} {c : Code} {g : GT} {h0 : AH} {v0 : Option Nat} {K : Unit → AH → Prop} {E : Nat → AH → Prop} (X : Cx g h0 p s m args meth c RX6 cX6_seek 4 none)  : ∀ (n : Nat) {v3 : Int32} {h : AH} {H : Heap} {locs : List Loc} {cells slots : Nat} {ls : Array Slot}, LpN1 (w_X6_seek_L27 g v0 K E) n v3 h → HS g s h H locs → lv_has ls 4 [(0, va_rf v0), (3, .int v3)] → W p l e (RM 9 h0) s m args below meth c H locs cells slots (MQT below g (qV K) E args s h0) (F0 m 27 ls []) := by
  have hx := X.hx
  have hb := X.hb
  intro n
  induction n with
  | zero =>
    intro v3 h H locs cells slots ls hw
    exact hw.elim
  | succ n k27 =>
    intro v3 h H locs cells slots ls hw hR hl
    have hw : w_X6_seek_L27 g v0 K E (LpN1 (w_X6_seek_L27 g v0 K E) n) v3 h := hw
    unfold w_X6_seek_L27 at hw
    refine lv_iload_n hx hb dX6_seek_27 rfl (lv_at hl 1 rfl) ?_
    refine lv_iconst (v := 3) hx hb dX6_seek_28 (by decide) ?_
    refine lv_icmp_gt (tgt := 44) hx hb dX6_seek_29 (by decide) (fun c3 => ?_) (fun c3 => ?_)
    · have hw := hw.1 c3
      exact r_vret X hR rfl dX6_seek_44 hw
    · have hw := hw.2 c3
      refine r_aload_n X dX6_seek_32 rfl (lv_at hl 0 rfl) ?_
      refine lv_iconst (v := 0) hx hb dX6_seek_33 (by decide) ?_
      refine lv_iload_n hx hb dX6_seek_34 rfl (lv_at hl 1 rfl) ?_
      refine r_callV X hR (c_V (ci := 6) (q := (RX6, TX6, 6)) X hR hl.1 (c_X6_tries 6 l g v0 0 v3) (lw_V q1334 q1336 qs40 q123 q1337) rfl rfl mh_X6_tries rfl (by decide) (by decide) rfl (cat4 (Nat.le_of_ble_eq_true rfl)) dX6_seek_35 hw) (fun _ h H locs cells slots hR hw => ?_)
      refine r_iinc X (k := 1) (v := (v3 + 1)) (lv' := fun x4 => [(3, .int x4), (0, va_rf v0)]) dX6_seek_38 hl rfl rfl (by decide) hw (fun _ => rfl) (fun x4 hw ls hl => ?_)
      refine lv_goto (tgt := 27) hx hb dX6_seek_41 (by decide) ?_
      exact k27 hw hR (lv_sub hl [1, 0] rfl)
theorem c_X6_seek (l : Launch) (g : GT) (v0 : Option Nat) (v1 : Option Nat) (v2 : Option Nat) : CT qV l yX6_seek (ws_ yX6_seek cX6_seek 4 none) 9 g [va_rf v0, va_rf v1, va_rf v2] (fun K E h => w_X6_seek g v0 v1 v2 K E h) := by
  refine CT_of (lv := [(0, va_rf v0), (1, va_rf v1), (2, va_rf v2)]) (by decide +kernel) (by simp [lg_sl, cat_rf, cat_int, cat_long]) (by simp [lv_args, cat_rf, cat_int, cat_long]) (fun h0 K E p e s m args below meth c H locs cells slots ls X hxt hmn hw hR hl => ?_)
  have hx := X.hx
  have hb := X.hb
  unfold w_X6_seek at hw
  refine r_aload_n X dX6_seek_0 rfl (lv_at hl 0 rfl) ?_
  refine r_aload_n X dX6_seek_1 rfl (lv_at hl 1 rfl) ?_
  refine r_put X hR fp_X6_25 (Or.inl fn_X6_25) (nf_obj _ _) dX6_seek_2 hw (fun H locs h hR hw => ?_)
  refine r_aload_n X dX6_seek_5 rfl (lv_at hl 0 rfl) ?_
  refine lv_iconst (v := (-1)) hx hb dX6_seek_6 (by decide) ?_
  refine r_put X hR fp_X6_29 (Or.inl fn_X6_29) (nf_int _) dX6_seek_7 hw (fun H locs h hR hw => ?_)
  refine r_aload_n X dX6_seek_10 rfl (lv_at hl 0 rfl) ?_
  refine lv_iconst (v := 0) hx hb dX6_seek_11 (by decide) ?_
  refine r_put X hR fp_X6_33 (Or.inl fn_X6_33) (nf_int _) dX6_seek_12 hw (fun H locs h hR hw => ?_)
  refine r_aload_n X dX6_seek_15 rfl (lv_at hl 0 rfl) ?_
  refine r_gR X hR fk_X6_11 dX6_seek_16 hw (fun x1 hw => ?_)
  refine lv_iconst (v := 0) hx hb dX6_seek_19 (by decide) ?_
  refine r_aald X hR (t := 4) (by decide) (by decide) dX6_seek_20 hw (fun x2 hw => ?_)
  refine r_aload_n X dX6_seek_21 rfl (lv_at hl 2 rfl) ?_
  refine r_callV X hR (c_V (ci := 4) (q := (RX4, TX4, 4)) X hR hl.1 (c_X4_become l g x2 v2) (lw_V q1333 q1288 q1289 q121 q1290) rfl rfl mh_X4_become rfl (by decide) (by decide) rfl (cat4 (Nat.le_of_ble_eq_true rfl)) dX6_seek_22 hw) (fun _ h H locs cells slots hR hw => ?_)
  refine lv_iconst (v := 0) hx hb dX6_seek_25 (by decide) ?_
  refine lv_istore_n (i := 3) (lv' := [(3, .int 0), (0, va_rf v0), (1, va_rf v1), (2, va_rf v2)]) hx hb dX6_seek_26 rfl hl (by decide) (by simp [cat_rf, cat_int, cat_long]) (fun ls hl => ?_)
  obtain ⟨n, hw⟩ := hw
  exact t_X6_seek_L27 X  n hw hR (lv_sub hl [1, 0] rfl)
theorem c_X1_putRight (l : Launch) (g : GT) (v0 : Option Nat) : CT qI l yX1_putRight (ws_ yX1_putRight cX1_putRight 1 (Option.some Jvm.ClassFile.FieldType.int)) 10 g [va_rf v0] (fun K E h => w_X1_putRight g v0 K E h) := by
  refine CT_of (lv := [(0, va_rf v0)]) (by decide +kernel) (by simp [lg_sl, cat_rf, cat_int, cat_long]) (by simp [lv_args, cat_rf, cat_int, cat_long]) (fun h0 K E p e s m args below meth c H locs cells slots ls X hxt hmn hw hR hl => ?_)
  have hx := X.hx
  have hb := X.hb
  unfold w_X1_putRight at hw
  refine r_aload_n X dX1_putRight_0 rfl (lv_at hl 0 rfl) ?_
  refine r_callV X hR (c_V (ci := 1) (q := (RX1, TX1, 21)) X hR hl.1 (c_X1_anew l g v0) (lw_V q455 q457 qs2 q115 q458) rfl rfl mh_X1_anew rfl (by decide) (by decide) rfl (cat4 (Nat.le_of_ble_eq_true rfl)) dX1_putRight_1 hw) (fun _ h H locs cells slots hR hw => ?_)
  refine r_aload_n X dX1_putRight_4 rfl (lv_at hl 0 rfl) ?_
  refine r_gR X hR fk_X1_102 dX1_putRight_5 hw (fun x1 hw => ?_)
  refine r_ifnonnull (tgt := 17) X dX1_putRight_8 (by decide) (fun c2 => ?_) (fun c2 => ?_)
  · have hw := hw.1 c2
    refine r_aload_n X dX1_putRight_17 rfl (lv_at hl 0 rfl) ?_
    refine r_gR X hR fk_X1_56 dX1_putRight_18 hw (fun x3 hw => ?_)
    refine r_aload_n X dX1_putRight_21 rfl (lv_at hl 0 rfl) ?_
    refine r_gR X hR fk_X1_102 dX1_putRight_22 hw (fun x4 hw => ?_)
    refine r_aload_n X dX1_putRight_25 rfl (lv_at hl 0 rfl) ?_
    refine r_gR X hR fk_X1_33 dX1_putRight_26 hw (fun x5 hw => ?_)
    refine r_callV X hR (c_V (ci := 6) (q := (RX6, TX6, 6)) X hR hl.1 (c_X6_seek l g x3 x4 x5) (lw_V q1329 q1330 q1331 q123 q1332) rfl rfl mh_X6_seek rfl (by decide) (by decide) rfl (cat4 (Nat.le_of_ble_eq_true rfl)) dX1_putRight_29 hw) (fun _ h H locs cells slots hR hw => ?_)
    refine r_aload_n X dX1_putRight_32 rfl (lv_at hl 0 rfl) ?_
    refine r_gR X hR fk_X1_56 dX1_putRight_33 hw (fun x6 hw => ?_)
    refine r_gI X hR fk_X1_241 dX1_putRight_36 hw (fun x7 hw => ?_)
    exact r_iret X hR dX1_putRight_39 hw
  · have hw := hw.2 c2
    refine r_aload_n X dX1_putRight_11 rfl (lv_at hl 0 rfl) ?_
    refine lv_iconst (v := 1) hx hb dX1_putRight_12 (by decide) ?_
    refine r_callI X hR (c_V (ci := 1) (q := (RX1, TX1, 21)) X hR hl.1 (c_X1_no l g v0 1) (lw_V q462 q464 qs3 q115 q465) rfl rfl mh_X1_no rfl (by decide) (by decide) rfl (cat4 (Nat.le_of_ble_eq_true rfl)) dX1_putRight_13 hw) (fun x8 h H locs cells slots hR hw => ?_)
    exact r_iret X hR dX1_putRight_16 hw
theorem c_X1_exchanges (l : Launch) (g : GT) (v0 : Option Nat) : CT qI l yX1_exchanges (ws_ yX1_exchanges cX1_exchanges 1 (Option.some Jvm.ClassFile.FieldType.int)) 10 g [va_rf v0] (fun K E h => w_X1_exchanges g v0 K E h) := by
  refine CT_of (lv := [(0, va_rf v0)]) (by decide +kernel) (by simp [lg_sl, cat_rf, cat_int, cat_long]) (by simp [lv_args, cat_rf, cat_int, cat_long]) (fun h0 K E p e s m args below meth c H locs cells slots ls X hxt hmn hw hR hl => ?_)
  have hx := X.hx
  have hb := X.hb
  unfold w_X1_exchanges at hw
  refine r_aload_n X dX1_exchanges_0 rfl (lv_at hl 0 rfl) ?_
  refine r_callV X hR (c_V (ci := 1) (q := (RX1, TX1, 21)) X hR hl.1 (c_X1_anew l g v0) (lw_V q455 q457 qs2 q115 q458) rfl rfl mh_X1_anew rfl (by decide) (by decide) rfl (cat4 (Nat.le_of_ble_eq_true rfl)) dX1_exchanges_1 hw) (fun _ h H locs cells slots hR hw => ?_)
  refine r_aload_n X dX1_exchanges_4 rfl (lv_at hl 0 rfl) ?_
  refine r_gR X hR fk_X1_102 dX1_exchanges_5 hw (fun x1 hw => ?_)
  refine r_ifnonnull (tgt := 17) X dX1_exchanges_8 (by decide) (fun c2 => ?_) (fun c2 => ?_)
  · have hw := hw.1 c2
    refine r_aload_n X dX1_exchanges_17 rfl (lv_at hl 0 rfl) ?_
    refine r_gR X hR fk_X1_56 dX1_exchanges_18 hw (fun x3 hw => ?_)
    refine r_aload_n X dX1_exchanges_21 rfl (lv_at hl 0 rfl) ?_
    refine r_gR X hR fk_X1_102 dX1_exchanges_22 hw (fun x4 hw => ?_)
    refine r_aload_n X dX1_exchanges_25 rfl (lv_at hl 0 rfl) ?_
    refine r_gR X hR fk_X1_33 dX1_exchanges_26 hw (fun x5 hw => ?_)
    refine r_callV X hR (c_V (ci := 6) (q := (RX6, TX6, 6)) X hR hl.1 (c_X6_seek l g x3 x4 x5) (lw_V q1329 q1330 q1331 q123 q1332) rfl rfl mh_X6_seek rfl (by decide) (by decide) rfl (cat4 (Nat.le_of_ble_eq_true rfl)) dX1_exchanges_29 hw) (fun _ h H locs cells slots hR hw => ?_)
    refine r_aload_n X dX1_exchanges_32 rfl (lv_at hl 0 rfl) ?_
    refine r_gR X hR fk_X1_56 dX1_exchanges_33 hw (fun x6 hw => ?_)
    refine r_gI X hR fk_X1_243 dX1_exchanges_36 hw (fun x7 hw => ?_)
    exact r_iret X hR dX1_exchanges_39 hw
  · have hw := hw.2 c2
    refine r_aload_n X dX1_exchanges_11 rfl (lv_at hl 0 rfl) ?_
    refine lv_iconst (v := 1) hx hb dX1_exchanges_12 (by decide) ?_
    refine r_callI X hR (c_V (ci := 1) (q := (RX1, TX1, 21)) X hR hl.1 (c_X1_no l g v0 1) (lw_V q462 q464 qs3 q115 q465) rfl rfl mh_X1_no rfl (by decide) (by decide) rfl (cat4 (Nat.le_of_ble_eq_true rfl)) dX1_exchanges_13 hw) (fun x8 h H locs cells slots hR hw => ?_)
    exact r_iret X hR dX1_exchanges_16 hw
theorem c_X6_at (l : Launch) (g : GT) (v0 : Option Nat) (v1 : Int32) : CT qI l yX6_at (ws_ yX6_at cX6_at 2 (Option.some Jvm.ClassFile.FieldType.int)) 1 g [va_rf v0, .int v1] (fun K E h => w_X6_at g v0 v1 K E h) := by
  refine CT_of (lv := [(0, va_rf v0), (1, .int v1)]) (by decide +kernel) (by simp [lg_sl, cat_rf, cat_int, cat_long]) (by simp [lv_args, cat_rf, cat_int, cat_long]) (fun h0 K E p e s m args below meth c H locs cells slots ls X hxt hmn hw hR hl => ?_)
  have hx := X.hx
  have hb := X.hb
  unfold w_X6_at at hw
  refine r_aload_n X dX6_at_0 rfl (lv_at hl 0 rfl) ?_
  refine r_gR X hR fk_X6_21 dX6_at_1 hw (fun x1 hw => ?_)
  refine lv_iload_n hx hb dX6_at_4 rfl (lv_at hl 1 rfl) ?_
  refine r_iald X hR dX6_at_5 hw (fun x2 hw => ?_)
  exact r_iret X hR dX6_at_6 hw
theorem c_X1_exchangeAt (l : Launch) (g : GT) (v0 : Option Nat) (v1 : Int32) : CT qI l yX1_exchangeAt (ws_ yX1_exchangeAt cX1_exchangeAt 2 (Option.some Jvm.ClassFile.FieldType.int)) 10 g [va_rf v0, .int v1] (fun K E h => w_X1_exchangeAt g v0 v1 K E h) := by
  refine CT_of (lv := [(0, va_rf v0), (1, .int v1)]) (by decide +kernel) (by simp [lg_sl, cat_rf, cat_int, cat_long]) (by simp [lv_args, cat_rf, cat_int, cat_long]) (fun h0 K E p e s m args below meth c H locs cells slots ls X hxt hmn hw hR hl => ?_)
  have hx := X.hx
  have hb := X.hb
  unfold w_X1_exchangeAt at hw
  refine r_aload_n X dX1_exchangeAt_0 rfl (lv_at hl 0 rfl) ?_
  refine r_callV X hR (c_V (ci := 1) (q := (RX1, TX1, 21)) X hR hl.1 (c_X1_anew l g v0) (lw_V q455 q457 qs2 q115 q458) rfl rfl mh_X1_anew rfl (by decide) (by decide) rfl (cat4 (Nat.le_of_ble_eq_true rfl)) dX1_exchangeAt_1 hw) (fun _ h H locs cells slots hR hw => ?_)
  refine r_aload_n X dX1_exchangeAt_4 rfl (lv_at hl 0 rfl) ?_
  refine r_gR X hR fk_X1_102 dX1_exchangeAt_5 hw (fun x1 hw => ?_)
  refine r_ifnonnull (tgt := 17) X dX1_exchangeAt_8 (by decide) (fun c2 => ?_) (fun c2 => ?_)
  · have hw := hw.1 c2
    refine r_aload_n X dX1_exchangeAt_17 rfl (lv_at hl 0 rfl) ?_
    refine r_gR X hR fk_X1_56 dX1_exchangeAt_18 hw (fun x3 hw => ?_)
    refine r_aload_n X dX1_exchangeAt_21 rfl (lv_at hl 0 rfl) ?_
    refine r_gR X hR fk_X1_102 dX1_exchangeAt_22 hw (fun x4 hw => ?_)
    refine r_aload_n X dX1_exchangeAt_25 rfl (lv_at hl 0 rfl) ?_
    refine r_gR X hR fk_X1_33 dX1_exchangeAt_26 hw (fun x5 hw => ?_)
    refine r_callV X hR (c_V (ci := 6) (q := (RX6, TX6, 6)) X hR hl.1 (c_X6_seek l g x3 x4 x5) (lw_V q1329 q1330 q1331 q123 q1332) rfl rfl mh_X6_seek rfl (by decide) (by decide) rfl (cat4 (Nat.le_of_ble_eq_true rfl)) dX1_exchangeAt_29 hw) (fun _ h H locs cells slots hR hw => ?_)
    refine lv_iload_n hx hb dX1_exchangeAt_32 rfl (lv_at hl 1 rfl) ?_
    refine lv_iconst (v := 0) hx hb dX1_exchangeAt_33 (by decide) ?_
    refine r_aload_n X dX1_exchangeAt_34 rfl (lv_at hl 0 rfl) ?_
    refine r_gR X hR fk_X1_56 dX1_exchangeAt_35 hw (fun x6 hw => ?_)
    refine r_gI X hR fk_X1_243 dX1_exchangeAt_38 hw (fun x7 hw => ?_)
    refine lv_iconst (v := 1) hx hb dX1_exchangeAt_41 (by decide) ?_
    refine lv_isub hx hb dX1_exchangeAt_42 ?_
    refine r_callI X hR (c_S X hR hl.1 (c_X1_in l g v1 0 (x7 - 1)) (lw_S q459 q460 q115 q461) mh_X1_in rfl (by decide) (by decide) rfl (cat4 (Nat.le_of_ble_eq_true rfl)) dX1_exchangeAt_43 hw) (fun x8 h H locs cells slots hR hw => ?_)
    refine lv_if_eq (tgt := 60) hx hb dX1_exchangeAt_46 (by decide) (fun c9 => ?_) (fun c9 => ?_)
    · have hw := hw.1 c9
      refine r_aload_n X dX1_exchangeAt_60 rfl (lv_at hl 0 rfl) ?_
      refine lv_iconst (v := 1) hx hb dX1_exchangeAt_61 (by decide) ?_
      refine r_callI X hR (c_V (ci := 1) (q := (RX1, TX1, 21)) X hR hl.1 (c_X1_no l g v0 1) (lw_V q462 q464 qs3 q115 q465) rfl rfl mh_X1_no rfl (by decide) (by decide) rfl (cat4 (Nat.le_of_ble_eq_true rfl)) dX1_exchangeAt_62 hw) (fun x10 h H locs cells slots hR hw => ?_)
      exact r_iret X hR dX1_exchangeAt_65 hw
    · have hw := hw.2 c9
      refine r_aload_n X dX1_exchangeAt_49 rfl (lv_at hl 0 rfl) ?_
      refine r_gR X hR fk_X1_56 dX1_exchangeAt_50 hw (fun x11 hw => ?_)
      refine lv_iload_n hx hb dX1_exchangeAt_53 rfl (lv_at hl 1 rfl) ?_
      refine r_callI X hR (c_V (ci := 6) (q := (RX6, TX6, 6)) X hR hl.1 (c_X6_at l g x11 v1) (lw_V q1350 q1351 q1352 q123 q1353) rfl rfl mh_X6_at rfl (by decide) (by decide) rfl (cat4 (Nat.le_of_ble_eq_true rfl)) dX1_exchangeAt_54 hw) (fun x12 h H locs cells slots hR hw => ?_)
      refine lv_goto (tgt := 65) hx hb dX1_exchangeAt_57 (by decide) ?_
      exact r_iret X hR dX1_exchangeAt_65 hw
  · have hw := hw.2 c2
    refine r_aload_n X dX1_exchangeAt_11 rfl (lv_at hl 0 rfl) ?_
    refine lv_iconst (v := 1) hx hb dX1_exchangeAt_12 (by decide) ?_
    refine r_callI X hR (c_V (ci := 1) (q := (RX1, TX1, 21)) X hR hl.1 (c_X1_no l g v0 1) (lw_V q462 q464 qs3 q115 q465) rfl rfl mh_X1_no rfl (by decide) (by decide) rfl (cat4 (Nat.le_of_ble_eq_true rfl)) dX1_exchangeAt_13 hw) (fun x13 h H locs cells slots hR hw => ?_)
    exact r_iret X hR dX1_exchangeAt_16 hw
theorem c_X1_party (l : Launch) (g : GT) (v0 : Option Nat) (v1 : Int32) : CT qI l yX1_party (ws_ yX1_party cX1_party 2 (Option.some Jvm.ClassFile.FieldType.int)) 12 g [va_rf v0, .int v1] (fun K E h => w_X1_party g v0 v1 K E h) := by
  refine CT_of (lv := [(0, va_rf v0), (1, .int v1)]) (by decide +kernel) (by simp [lg_sl, cat_rf, cat_int, cat_long]) (by simp [lv_args, cat_rf, cat_int, cat_long]) (fun h0 K E p e s m args below meth c H locs cells slots ls X hxt hmn hw hR hl => ?_)
  have hx := X.hx
  have hb := X.hb
  unfold w_X1_party at hw
  refine r_aload_n X dX1_party_0 rfl (lv_at hl 0 rfl) ?_
  refine r_callV X hR (c_V (ci := 1) (q := (RX1, TX1, 21)) X hR hl.1 (c_X1_anew l g v0) (lw_V q455 q457 qs2 q115 q458) rfl rfl mh_X1_anew rfl (by decide) (by decide) rfl (cat4 (Nat.le_of_ble_eq_true rfl)) dX1_party_1 hw) (fun _ h H locs cells slots hR hw => ?_)
  refine r_aload_n X dX1_party_4 rfl (lv_at hl 0 rfl) ?_
  refine lv_iload_n hx hb dX1_party_5 rfl (lv_at hl 1 rfl) ?_
  refine r_callI X hR (c_V (ci := 1) (q := (RX1, TX1, 21)) X hR hl.1 (c_X1_arePeople l g v0 v1) (lw_V q1301 q1303 qs38 q115 q1304) rfl rfl mh_X1_arePeople rfl (by decide) (by decide) rfl (cat4 (Nat.le_of_ble_eq_true rfl)) dX1_party_6 hw) (fun x1 h H locs cells slots hR hw => ?_)
  refine lv_if_eq (tgt := 31) hx hb dX1_party_9 (by decide) (fun c2 => ?_) (fun c2 => ?_)
  · have hw := hw.1 c2
    refine r_aload_n X dX1_party_31 rfl (lv_at hl 0 rfl) ?_
    refine lv_iconst (v := 1) hx hb dX1_party_32 (by decide) ?_
    refine r_callI X hR (c_V (ci := 1) (q := (RX1, TX1, 21)) X hR hl.1 (c_X1_no l g v0 1) (lw_V q462 q464 qs3 q115 q465) rfl rfl mh_X1_no rfl (by decide) (by decide) rfl (cat4 (Nat.le_of_ble_eq_true rfl)) dX1_party_33 hw) (fun x3 h H locs cells slots hR hw => ?_)
    exact r_iret X hR dX1_party_36 hw
  · have hw := hw.2 c2
    refine r_aload_n X dX1_party_12 rfl (lv_at hl 0 rfl) ?_
    refine r_gR X hR fk_X1_63 dX1_party_13 hw (fun x4 hw => ?_)
    refine r_aload_n X dX1_party_16 rfl (lv_at hl 0 rfl) ?_
    refine r_gR X hR fk_X1_102 dX1_party_17 hw (fun x5 hw => ?_)
    refine r_aload_n X dX1_party_20 rfl (lv_at hl 0 rfl) ?_
    refine r_gR X hR fk_X1_33 dX1_party_21 hw (fun x6 hw => ?_)
    refine lv_iload_n hx hb dX1_party_24 rfl (lv_at hl 1 rfl) ?_
    refine r_callI X hR (c_V (ci := 7) (q := (RX7, TX7, 7)) X hR hl.1 (c_X7_seek l g x4 x5 x6 v1) (lw_V q1306 q1307 q1308 q124 q1309) rfl rfl mh_X7_seek rfl (by decide) (by decide) rfl (cat4 (Nat.le_of_ble_eq_true rfl)) dX1_party_25 hw) (fun x7 h H locs cells slots hR hw => ?_)
    refine lv_goto (tgt := 36) hx hb dX1_party_28 (by decide) ?_
    exact r_iret X hR dX1_party_36 hw
theorem c_X7_at (l : Launch) (g : GT) (v0 : Option Nat) (v1 : Int32) : CT qI l yX7_at (ws_ yX7_at cX7_at 2 (Option.some Jvm.ClassFile.FieldType.int)) 1 g [va_rf v0, .int v1] (fun K E h => w_X7_at g v0 v1 K E h) := by
  refine CT_of (lv := [(0, va_rf v0), (1, .int v1)]) (by decide +kernel) (by simp [lg_sl, cat_rf, cat_int, cat_long]) (by simp [lv_args, cat_rf, cat_int, cat_long]) (fun h0 K E p e s m args below meth c H locs cells slots ls X hxt hmn hw hR hl => ?_)
  have hx := X.hx
  have hb := X.hb
  unfold w_X7_at at hw
  refine r_aload_n X dX7_at_0 rfl (lv_at hl 0 rfl) ?_
  refine r_gR X hR fk_X7_15 dX7_at_1 hw (fun x1 hw => ?_)
  refine lv_iload_n hx hb dX7_at_4 rfl (lv_at hl 1 rfl) ?_
  refine r_iald X hR dX7_at_5 hw (fun x2 hw => ?_)
  exact r_iret X hR dX7_at_6 hw
theorem t_X1_partyOf_J20 {p : Program} {l : Launch} {e : Env} {s : State} {m : MethodId} {args : Array Value} {below : List Frame} {meth : Method} {c : Code} {g : GT} {h0 : AH} {v0 : Option Nat} {K : Int32 → AH → Prop} {E : Nat → AH → Prop} {h : AH} {H : Heap} {locs : List Loc} {cells slots : Nat} {ls : Array Slot} (X : Cx g h0 p s m args meth c RX1 cX1_partyOf 3 (Option.some Jvm.ClassFile.FieldType.int))  (hw : w_X1_partyOf_J20 g v0 K E h) (hR : HS g s h H locs) (hl : lv_has ls 3 [(0, va_rf v0)]) : W p l e (RM 12 h0) s m args below meth c H locs cells slots (MQT below g (qI K) E args s h0) (F0 m 20 ls []) := by
  have hx := X.hx
  have hb := X.hb
  unfold w_X1_partyOf_J20 at hw
  refine r_aload_n X dX1_partyOf_20 rfl (lv_at hl 0 rfl) ?_
  refine lv_iconst (v := 1) hx hb dX1_partyOf_21 (by decide) ?_
  refine r_callI X hR (c_V (ci := 1) (q := (RX1, TX1, 21)) X hR hl.1 (c_X1_no l g v0 1) (lw_V q462 q464 qs3 q115 q465) rfl rfl mh_X1_no rfl (by decide) (by decide) rfl (cat4 (Nat.le_of_ble_eq_true rfl)) dX1_partyOf_22 hw) (fun x3 h H locs cells slots hR hw => ?_)
  exact r_iret X hR dX1_partyOf_25 hw
theorem c_X1_partyOf (l : Launch) (g : GT) (v0 : Option Nat) (v1 : Int32) (v2 : Int32) : CT qI l yX1_partyOf (ws_ yX1_partyOf cX1_partyOf 3 (Option.some Jvm.ClassFile.FieldType.int)) 12 g [va_rf v0, .int v1, .int v2] (fun K E h => w_X1_partyOf g v0 v1 v2 K E h) := by
  refine CT_of (lv := [(0, va_rf v0), (1, .int v1), (2, .int v2)]) (by decide +kernel) (by simp [lg_sl, cat_rf, cat_int, cat_long]) (by simp [lv_args, cat_rf, cat_int, cat_long]) (fun h0 K E p e s m args below meth c H locs cells slots ls X hxt hmn hw hR hl => ?_)
  have hx := X.hx
  have hb := X.hb
  unfold w_X1_partyOf at hw
  refine r_aload_n X dX1_partyOf_0 rfl (lv_at hl 0 rfl) ?_
  refine r_callV X hR (c_V (ci := 1) (q := (RX1, TX1, 21)) X hR hl.1 (c_X1_anew l g v0) (lw_V q455 q457 qs2 q115 q458) rfl rfl mh_X1_anew rfl (by decide) (by decide) rfl (cat4 (Nat.le_of_ble_eq_true rfl)) dX1_partyOf_1 hw) (fun _ h H locs cells slots hR hw => ?_)
  refine r_aload_n X dX1_partyOf_4 rfl (lv_at hl 0 rfl) ?_
  refine lv_iload_n hx hb dX1_partyOf_5 rfl (lv_at hl 1 rfl) ?_
  refine r_callI X hR (c_V (ci := 1) (q := (RX1, TX1, 21)) X hR hl.1 (c_X1_arePeople l g v0 v1) (lw_V q1301 q1303 qs38 q115 q1304) rfl rfl mh_X1_arePeople rfl (by decide) (by decide) rfl (cat4 (Nat.le_of_ble_eq_true rfl)) dX1_partyOf_6 hw) (fun x1 h H locs cells slots hR hw => ?_)
  refine lv_if_eq (tgt := 20) hx hb dX1_partyOf_9 (by decide) (fun c2 => ?_) (fun c2 => ?_)
  · have hw := hw.1 c2
    exact t_X1_partyOf_J20 X  hw hR (lv_sub hl [0] rfl)
  · have hw := hw.2 c2
    refine r_aload_n X dX1_partyOf_12 rfl (lv_at hl 0 rfl) ?_
    refine lv_iload_n hx hb dX1_partyOf_13 rfl (lv_at hl 2 rfl) ?_
    refine r_callI X hR (c_V (ci := 1) (q := (RX1, TX1, 21)) X hR hl.1 (c_X1_isPerson l g v0 v2) (lw_V q1165 q1167 qs33 q115 q1168) rfl rfl mh_X1_isPerson rfl (by decide) (by decide) rfl (cat4 (Nat.le_of_ble_eq_true rfl)) dX1_partyOf_14 hw) (fun x4 h H locs cells slots hR hw => ?_)
    refine lv_if_ne (tgt := 26) hx hb dX1_partyOf_17 (by decide) (fun c5 => ?_) (fun c5 => ?_)
    · have hw := hw.1 c5
      refine r_aload_n X dX1_partyOf_26 rfl (lv_at hl 0 rfl) ?_
      refine r_gR X hR fk_X1_63 dX1_partyOf_27 hw (fun x6 hw => ?_)
      refine r_aload_n X dX1_partyOf_30 rfl (lv_at hl 0 rfl) ?_
      refine r_gR X hR fk_X1_102 dX1_partyOf_31 hw (fun x7 hw => ?_)
      refine r_aload_n X dX1_partyOf_34 rfl (lv_at hl 0 rfl) ?_
      refine r_gR X hR fk_X1_33 dX1_partyOf_35 hw (fun x8 hw => ?_)
      refine lv_iload_n hx hb dX1_partyOf_38 rfl (lv_at hl 1 rfl) ?_
      refine r_callI X hR (c_V (ci := 7) (q := (RX7, TX7, 7)) X hR hl.1 (c_X7_seek l g x6 x7 x8 v1) (lw_V q1306 q1307 q1308 q124 q1309) rfl rfl mh_X7_seek rfl (by decide) (by decide) rfl (cat4 (Nat.le_of_ble_eq_true rfl)) dX1_partyOf_39 hw) (fun x9 h H locs cells slots hR hw => ?_)
      refine lv_bipush (v := (-2)) hx hb dX1_partyOf_42 (by decide) ?_
      refine lv_icmp_ne (tgt := 56) hx hb dX1_partyOf_44 (by decide) (fun c10 => ?_) (fun c10 => ?_)
      · have hw := hw.1 c10
        refine r_aload_n X dX1_partyOf_56 rfl (lv_at hl 0 rfl) ?_
        refine r_gR X hR fk_X1_63 dX1_partyOf_57 hw (fun x11 hw => ?_)
        refine lv_iload_n hx hb dX1_partyOf_60 rfl (lv_at hl 2 rfl) ?_
        refine r_callI X hR (c_V (ci := 7) (q := (RX7, TX7, 7)) X hR hl.1 (c_X7_at l g x11 v2) (lw_V q1362 q1363 q1364 q124 q1365) rfl rfl mh_X7_at rfl (by decide) (by decide) rfl (cat4 (Nat.le_of_ble_eq_true rfl)) dX1_partyOf_61 hw) (fun x12 h H locs cells slots hR hw => ?_)
        exact r_iret X hR dX1_partyOf_64 hw
      · have hw := hw.2 c10
        refine r_aload_n X dX1_partyOf_47 rfl (lv_at hl 0 rfl) ?_
        refine lv_bipush (v := 6) hx hb dX1_partyOf_48 (by decide) ?_
        refine r_callI X hR (c_V (ci := 1) (q := (RX1, TX1, 21)) X hR hl.1 (c_X1_no l g v0 6) (lw_V q462 q464 qs3 q115 q465) rfl rfl mh_X1_no rfl (by decide) (by decide) rfl (cat4 (Nat.le_of_ble_eq_true rfl)) dX1_partyOf_50 hw) (fun x13 h H locs cells slots hR hw => ?_)
        refine lv_goto (tgt := 64) hx hb dX1_partyOf_53 (by decide) ?_
        exact r_iret X hR dX1_partyOf_64 hw
    · have hw := hw.2 c5
      exact t_X1_partyOf_J20 X  hw hR (lv_sub hl [0] rfl)
theorem t_X7_room_L4 {p : Program} {l : Launch} {e : Env} {s : State} {m : MethodId} {args : Array Value} {below : List Frame} {meth : Method} {c : Code} {g : GT} {h0 : AH} {v0 : Option Nat} {K : Int32 → AH → Prop} {E : Nat → AH → Prop} (X : Cx g h0 p s m args meth c RX7 cX7_room 3 (Option.some Jvm.ClassFile.FieldType.int))  : ∀ (n : Nat) {v1 : Int32} {v2 : Int32} {h : AH} {H : Heap} {locs : List Loc} {cells slots : Nat} {ls : Array Slot}, LpN2 (w_X7_room_L4 g v0 K E) n v1 v2 h → HS g s h H locs → lv_has ls 3 [(0, va_rf v0), (1, .int v1), (2, .int v2)] → W p l e (RM 1 h0) s m args below meth c H locs cells slots (MQT below g (qI K) E args s h0) (F0 m 4 ls []) := by
  have hx := X.hx
  have hb := X.hb
  intro n
  induction n with
  | zero =>
    intro v1 v2 h H locs cells slots ls hw
    exact hw.elim
  | succ n k4 =>
    intro v1 v2 h H locs cells slots ls hw hR hl
    have hw : w_X7_room_L4 g v0 K E (LpN2 (w_X7_room_L4 g v0 K E) n) v1 v2 h := hw
    unfold w_X7_room_L4 at hw
    refine lv_iload_n hx hb dX7_room_4 rfl (lv_at hl 2 rfl) ?_
    refine r_aload_n X dX7_room_5 rfl (lv_at hl 0 rfl) ?_
    refine r_gR X hR fk_X7_21 dX7_room_6 hw (fun x1 hw => ?_)
    refine r_gI X hR fk_X7_37 dX7_room_9 hw (fun x2 hw => ?_)
    refine lv_icmp_ge (tgt := 30) hx hb dX7_room_12 (by decide) (fun c3 => ?_) (fun c3 => ?_)
    · have hw := hw.1 c3
      refine lv_iload_n hx hb dX7_room_30 rfl (lv_at hl 1 rfl) ?_
      exact r_iret X hR dX7_room_31 hw
    · have hw := hw.2 c3
      refine lv_iload_n hx hb dX7_room_15 rfl (lv_at hl 1 rfl) ?_
      refine r_aload_n X dX7_room_16 rfl (lv_at hl 0 rfl) ?_
      refine r_gR X hR fk_X7_18 dX7_room_17 hw (fun x4 hw => ?_)
      refine lv_iload_n hx hb dX7_room_20 rfl (lv_at hl 2 rfl) ?_
      refine r_iald X hR dX7_room_21 hw (fun x5 hw => ?_)
      refine lv_iadd hx hb dX7_room_22 ?_
      refine r_nmI hw (fun x6 hw => ?_)
      refine lv_istore_n (i := 1) (lv' := [(1, .int x6), (0, va_rf v0), (2, .int v2)]) hx hb dX7_room_23 rfl hl (by decide) (by simp [cat_rf, cat_int, cat_long]) (fun ls hl => ?_)
      refine r_iinc X (k := 2) (v := (v2 + 1)) (lv' := fun x7 => [(2, .int x7), (1, .int x6), (0, va_rf v0)]) dX7_room_24 hl rfl rfl (by decide) hw (fun _ => rfl) (fun x7 hw ls hl => ?_)
      refine lv_goto (tgt := 4) hx hb dX7_room_27 (by decide) ?_
      exact k4 hw hR (lv_sub hl [2, 1, 0] rfl)
theorem c_X7_room (l : Launch) (g : GT) (v0 : Option Nat) : CT qI l yX7_room (ws_ yX7_room cX7_room 3 (Option.some Jvm.ClassFile.FieldType.int)) 1 g [va_rf v0] (fun K E h => w_X7_room g v0 K E h) := by
  refine CT_of (lv := [(0, va_rf v0)]) (by decide +kernel) (by simp [lg_sl, cat_rf, cat_int, cat_long]) (by simp [lv_args, cat_rf, cat_int, cat_long]) (fun h0 K E p e s m args below meth c H locs cells slots ls X hxt hmn hw hR hl => ?_)
  have hx := X.hx
  have hb := X.hb
  unfold w_X7_room at hw
  refine lv_iconst (v := 0) hx hb dX7_room_0 (by decide) ?_
  refine lv_istore_n (i := 1) (lv' := [(1, .int 0), (0, va_rf v0)]) hx hb dX7_room_1 rfl hl (by decide) (by simp [cat_rf, cat_int, cat_long]) (fun ls hl => ?_)
  refine lv_iconst (v := 0) hx hb dX7_room_2 (by decide) ?_
  refine lv_istore_n (i := 2) (lv' := [(2, .int 0), (1, .int 0), (0, va_rf v0)]) hx hb dX7_room_3 rfl hl (by decide) rfl (fun ls hl => ?_)
  obtain ⟨n, hw⟩ := hw
  exact t_X7_room_L4 X  n hw hR (lv_sub hl [2, 1, 0] rfl)
theorem c_X1_room (l : Launch) (g : GT) (v0 : Option Nat) (v1 : Int32) : CT qI l yX1_room (ws_ yX1_room cX1_room 2 (Option.some Jvm.ClassFile.FieldType.int)) 12 g [va_rf v0, .int v1] (fun K E h => w_X1_room g v0 v1 K E h) := by
  refine CT_of (lv := [(0, va_rf v0), (1, .int v1)]) (by decide +kernel) (by simp [lg_sl, cat_rf, cat_int, cat_long]) (by simp [lv_args, cat_rf, cat_int, cat_long]) (fun h0 K E p e s m args below meth c H locs cells slots ls X hxt hmn hw hR hl => ?_)
  have hx := X.hx
  have hb := X.hb
  unfold w_X1_room at hw
  refine r_aload_n X dX1_room_0 rfl (lv_at hl 0 rfl) ?_
  refine r_callV X hR (c_V (ci := 1) (q := (RX1, TX1, 21)) X hR hl.1 (c_X1_anew l g v0) (lw_V q455 q457 qs2 q115 q458) rfl rfl mh_X1_anew rfl (by decide) (by decide) rfl (cat4 (Nat.le_of_ble_eq_true rfl)) dX1_room_1 hw) (fun _ h H locs cells slots hR hw => ?_)
  refine r_aload_n X dX1_room_4 rfl (lv_at hl 0 rfl) ?_
  refine lv_iload_n hx hb dX1_room_5 rfl (lv_at hl 1 rfl) ?_
  refine r_callI X hR (c_V (ci := 1) (q := (RX1, TX1, 21)) X hR hl.1 (c_X1_arePeople l g v0 v1) (lw_V q1301 q1303 qs38 q115 q1304) rfl rfl mh_X1_arePeople rfl (by decide) (by decide) rfl (cat4 (Nat.le_of_ble_eq_true rfl)) dX1_room_6 hw) (fun x1 h H locs cells slots hR hw => ?_)
  refine lv_if_ne (tgt := 18) hx hb dX1_room_9 (by decide) (fun c2 => ?_) (fun c2 => ?_)
  · have hw := hw.1 c2
    refine r_aload_n X dX1_room_18 rfl (lv_at hl 0 rfl) ?_
    refine r_gR X hR fk_X1_63 dX1_room_19 hw (fun x3 hw => ?_)
    refine r_aload_n X dX1_room_22 rfl (lv_at hl 0 rfl) ?_
    refine r_gR X hR fk_X1_102 dX1_room_23 hw (fun x4 hw => ?_)
    refine r_aload_n X dX1_room_26 rfl (lv_at hl 0 rfl) ?_
    refine r_gR X hR fk_X1_33 dX1_room_27 hw (fun x5 hw => ?_)
    refine lv_iload_n hx hb dX1_room_30 rfl (lv_at hl 1 rfl) ?_
    refine r_callI X hR (c_V (ci := 7) (q := (RX7, TX7, 7)) X hR hl.1 (c_X7_seek l g x3 x4 x5 v1) (lw_V q1306 q1307 q1308 q124 q1309) rfl rfl mh_X7_seek rfl (by decide) (by decide) rfl (cat4 (Nat.le_of_ble_eq_true rfl)) dX1_room_31 hw) (fun x6 h H locs cells slots hR hw => ?_)
    refine lv_pop hx hb dX1_room_34 rfl ?_
    refine r_aload_n X dX1_room_35 rfl (lv_at hl 0 rfl) ?_
    refine r_gR X hR fk_X1_63 dX1_room_36 hw (fun x7 hw => ?_)
    refine r_callI X hR (c_V (ci := 7) (q := (RX7, TX7, 7)) X hR hl.1 (c_X7_room l g x7) (lw_V q1370 q1371 q1372 q124 q1373) rfl rfl mh_X7_room rfl (by decide) (by decide) rfl (cat4 (Nat.le_of_ble_eq_true rfl)) dX1_room_39 hw) (fun x8 h H locs cells slots hR hw => ?_)
    exact r_iret X hR dX1_room_42 hw
  · have hw := hw.2 c2
    refine r_aload_n X dX1_room_12 rfl (lv_at hl 0 rfl) ?_
    refine lv_iconst (v := 1) hx hb dX1_room_13 (by decide) ?_
    refine r_callI X hR (c_V (ci := 1) (q := (RX1, TX1, 21)) X hR hl.1 (c_X1_no l g v0 1) (lw_V q462 q464 qs3 q115 q465) rfl rfl mh_X1_no rfl (by decide) (by decide) rfl (cat4 (Nat.le_of_ble_eq_true rfl)) dX1_room_14 hw) (fun x9 h H locs cells slots hR hw => ?_)
    exact r_iret X hR dX1_room_17 hw
theorem c_X15_gust (l : Launch) (g : GT) (v0 : Option Nat) (v1 : Int32) : CT qI l yX15_gust (ws_ yX15_gust cX15_gust 2 (Option.some Jvm.ClassFile.FieldType.int)) 1 g [va_rf v0, .int v1] (fun K E h => w_X15_gust g v0 v1 K E h) := by
  refine CT_of (lv := [(0, va_rf v0), (1, .int v1)]) (by decide +kernel) (by simp [lg_sl, cat_rf, cat_int, cat_long]) (by simp [lv_args, cat_rf, cat_int, cat_long]) (fun h0 K E p e s m args below meth c H locs cells slots ls X hxt hmn hw hR hl => ?_)
  have hx := X.hx
  have hb := X.hb
  unfold w_X15_gust at hw
  refine lv_iload_n hx hb dX15_gust_0 rfl (lv_at hl 1 rfl) ?_
  exact r_iret X hR dX15_gust_1 hw
theorem c_X16_gust (l : Launch) (g : GT) (v0 : Option Nat) (v1 : Int32) : CT qI l yX16_gust (ws_ yX16_gust cX16_gust 2 (Option.some Jvm.ClassFile.FieldType.int)) 2 g [va_rf v0, .int v1] (fun K E h => w_X16_gust g v0 v1 K E h) := by
  refine CT_of (lv := [(0, va_rf v0), (1, .int v1)]) (by decide +kernel) (by simp [lg_sl, cat_rf, cat_int, cat_long]) (by simp [lv_args, cat_rf, cat_int, cat_long]) (fun h0 K E p e s m args below meth c H locs cells slots ls X hxt hmn hw hR hl => ?_)
  have hx := X.hx
  have hb := X.hb
  unfold w_X16_gust at hw
  refine r_aload_n X dX16_gust_0 rfl (lv_at hl 0 rfl) ?_
  refine lv_iload_n hx hb dX16_gust_1 rfl (lv_at hl 1 rfl) ?_
  refine r_callI X hR (c_SU (n := 1) (ci := 16) (q := (RX16, TY16, 5)) X hR hl.1 (c_X15_gust l g v0 v1) rfl (lw_app (List.forall_mem_cons.mpr ⟨q1390, List.forall_mem_cons.mpr ⟨q1384, List.forall_mem_cons.mpr ⟨q851, List.forall_mem_cons.mpr ⟨q1383, List.forall_mem_cons.mpr ⟨q137, fun _ h => absurd h List.not_mem_nil⟩⟩⟩⟩⟩) (lw_meth q1391)) ⟨by decide +kernel, by decide +kernel⟩ rfl (by decide) (by decide) rfl (cat4 (Nat.le_of_ble_eq_true rfl)) dX16_gust_2 hw) (fun x1 h H locs cells slots hR hw => ?_)
  refine lv_iconst (v := 2) hx hb dX16_gust_5 (by decide) ?_
  refine lv_idiv hx hb dX16_gust_6 (by decide) ?_
  exact r_iret X hR dX16_gust_7 hw
theorem c_X1_stays (l : Launch) (g : GT) (v0 : Option Nat) (v1 : Int32) : CT qI l yX1_stays (ws_ yX1_stays cX1_stays 2 (Option.some Jvm.ClassFile.FieldType.int)) 3 g [va_rf v0, .int v1] (fun K E h => w_X1_stays g v0 v1 K E h) := by
  refine CT_of (lv := [(0, va_rf v0), (1, .int v1)]) (by decide +kernel) (by simp [lg_sl, cat_rf, cat_int, cat_long]) (by simp [lv_args, cat_rf, cat_int, cat_long]) (fun h0 K E p e s m args below meth c H locs cells slots ls X hxt hmn hw hR hl => ?_)
  have hx := X.hx
  have hb := X.hb
  unfold w_X1_stays at hw
  refine lv_bipush (v := 100) hx hb dX1_stays_0 (by decide) ?_
  refine r_aload_n X dX1_stays_2 rfl (lv_at hl 0 rfl) ?_
  refine r_gR X hR fk_X1_102 dX1_stays_3 hw (fun x1 hw => ?_)
  refine r_gR X hR fk_X1_138 dX1_stays_6 hw (fun x2 hw => ?_)
  refine lv_iload_n hx hb dX1_stays_9 rfl (lv_at hl 1 rfl) ?_
  refine r_aald X hR (t := 6) (by decide) (by decide) dX1_stays_10 hw (fun x3 hw => ?_)
  refine r_aload_n X dX1_stays_11 rfl (lv_at hl 0 rfl) ?_
  refine r_gR X hR fk_X1_102 dX1_stays_12 hw (fun x4 hw => ?_)
  refine r_gI X hR fk_X1_253 dX1_stays_15 hw (fun x5 hw => ?_)
  refine r_callI X hR (r_letRun (qq := qI) hw (fun K7 hw => Or.elim hw (fun hw => c_U (C := "UmbrellaHeir$Silk") (owner := "UmbrellaHeir$Umbrella") (x := ⟨"UmbrellaHeir$Umbrella", "gust", "(I)I"⟩) (ci := 16) (q := (RX16, TY16, 5)) X hR hl.1 (c_X16_gust l g x3 x5) rfl rfl (va_cwO (C := "UmbrellaHeir$Silk") (owner := "UmbrellaHeir$Umbrella") (x := ⟨"UmbrellaHeir$Umbrella", "gust", "(I)I"⟩) (y := yX16_gust) 1 X.hts (lw_app (List.forall_mem_cons.mpr ⟨q1382, List.forall_mem_cons.mpr ⟨q1384, List.forall_mem_cons.mpr ⟨q1383, List.forall_mem_cons.mpr ⟨q1387, List.forall_mem_cons.mpr ⟨q1388, List.forall_mem_cons.mpr ⟨q138, fun _ h => absurd h List.not_mem_nil⟩⟩⟩⟩⟩⟩) (lw_meth q1389)) rfl rfl rfl q1391 ⟨by decide +kernel, by decide +kernel, by decide +kernel⟩ (rm_ok (by decide) (by decide))) rfl rfl (cat4 (Nat.le_of_ble_eq_true rfl)) dX1_stays_18 hw) (fun hw => Or.elim hw (fun hw => c_U (C := "UmbrellaHeir$Cotton") (owner := "UmbrellaHeir$Umbrella") (x := ⟨"UmbrellaHeir$Umbrella", "gust", "(I)I"⟩) (ci := 17) (q := (RX17, TY17, 5)) X hR hl.1 (c_X15_gust l g x3 x5) rfl rfl (va_cwU (C := "UmbrellaHeir$Cotton") (owner := "UmbrellaHeir$Umbrella") (x := ⟨"UmbrellaHeir$Umbrella", "gust", "(I)I"⟩) (y := yX15_gust) 1 X.hts (lw_app (List.forall_mem_cons.mpr ⟨q1382, List.forall_mem_cons.mpr ⟨q1384, List.forall_mem_cons.mpr ⟨q1385, List.forall_mem_cons.mpr ⟨q1383, List.forall_mem_cons.mpr ⟨q137, fun _ h => absurd h List.not_mem_nil⟩⟩⟩⟩⟩) (lw_meth q1391)) rfl rfl rfl rfl ⟨by decide +kernel, by decide +kernel, by decide +kernel⟩ (rm_ok (by decide) (by decide))) rfl rfl (cat4 (Nat.le_of_ble_eq_true rfl)) dX1_stays_18 hw) (fun hw => Or.elim hw (fun hw => c_U (C := "UmbrellaHeir$Stick") (owner := "UmbrellaHeir$Umbrella") (x := ⟨"UmbrellaHeir$Umbrella", "gust", "(I)I"⟩) (ci := 18) (q := (RX18, TY18, 5)) X hR hl.1 (c_X15_gust l g x3 x5) rfl rfl (va_cwU (C := "UmbrellaHeir$Stick") (owner := "UmbrellaHeir$Umbrella") (x := ⟨"UmbrellaHeir$Umbrella", "gust", "(I)I"⟩) (y := yX15_gust) 1 X.hts (lw_app (List.forall_mem_cons.mpr ⟨q1382, List.forall_mem_cons.mpr ⟨q1384, List.forall_mem_cons.mpr ⟨q1392, List.forall_mem_cons.mpr ⟨q1383, List.forall_mem_cons.mpr ⟨q137, fun _ h => absurd h List.not_mem_nil⟩⟩⟩⟩⟩) (lw_meth q1391)) rfl rfl rfl rfl ⟨by decide +kernel, by decide +kernel, by decide +kernel⟩ (rm_ok (by decide) (by decide))) rfl rfl (cat4 (Nat.le_of_ble_eq_true rfl)) dX1_stays_18 hw) (fun hw => c_U (C := "UmbrellaHeir$Parasol") (owner := "UmbrellaHeir$Umbrella") (x := ⟨"UmbrellaHeir$Umbrella", "gust", "(I)I"⟩) (ci := 19) (q := (RX19, TY19, 5)) X hR hl.1 (c_X15_gust l g x3 x5) rfl rfl (va_cwU (C := "UmbrellaHeir$Parasol") (owner := "UmbrellaHeir$Umbrella") (x := ⟨"UmbrellaHeir$Umbrella", "gust", "(I)I"⟩) (y := yX15_gust) 1 X.hts (lw_app (List.forall_mem_cons.mpr ⟨q1382, List.forall_mem_cons.mpr ⟨q1384, List.forall_mem_cons.mpr ⟨q1386, List.forall_mem_cons.mpr ⟨q1383, List.forall_mem_cons.mpr ⟨q137, fun _ h => absurd h List.not_mem_nil⟩⟩⟩⟩⟩) (lw_meth q1391)) rfl rfl rfl rfl ⟨by decide +kernel, by decide +kernel, by decide +kernel⟩ (rm_ok (by decide) (by decide))) rfl rfl (cat4 (Nat.le_of_ble_eq_true rfl)) dX1_stays_18 hw))))) (fun x6 h H locs cells slots hR hw => ?_)
  refine lv_isub hx hb dX1_stays_21 ?_
  exact r_iret X hR dX1_stays_22 hw
theorem c_X1_dividing_B (l : Launch) (g : GT) {rc : GT → Int64 → Int64 → (Int64 → AH → Prop) → (Nat → AH → Prop) → AH → Prop} {D' : Nat} (hD : 1 ≤ D') (hrc : ∀ (v0 : Int64) (v2 : Int64), CT qJ l yX1_dividing (ws_ yX1_dividing cX1_dividing 4 (Option.some Jvm.ClassFile.FieldType.long)) D' g [.long v0, .long v2] (fun K E h => rc g v0 v2 K E h)) (v0 : Int64) (v2 : Int64) : CT qJ l yX1_dividing (ws_ yX1_dividing cX1_dividing 4 (Option.some Jvm.ClassFile.FieldType.long)) (D' + 1) g [.long v0, .long v2] (fun K E h => w_X1_dividing_B rc g v0 v2 K E h) := by
  refine CT_of (lv := [(0, .long v0), (2, .long v2)]) (by decide +kernel) (by simp [lg_sl, cat_rf, cat_int, cat_long]) (by simp [lv_args, cat_rf, cat_int, cat_long]) (fun h0 K E p e s m args below meth c H locs cells slots ls X hxt hmn hw hR hl => ?_)
  have hx := X.hx
  have hb := X.hb
  unfold w_X1_dividing_B at hw
  refine lv_lload_n hx hb dX1_dividing_0 rfl (lv_at hl 1 rfl) ?_
  refine lv_lconst (v := 0) hx hb dX1_dividing_1 (by decide) ?_
  refine W.lcmp hx hb dX1_dividing_2 ?_
  refine lv_if_ne (tgt := 10) hx hb dX1_dividing_3 (by decide) (fun c1 => ?_) (fun c1 => ?_)
  · have hw := hw.1 c1
    refine lv_lload_n hx hb dX1_dividing_10 rfl (lv_at hl 1 rfl) ?_
    refine lv_lload_n hx hb dX1_dividing_11 rfl (lv_at hl 0 rfl) ?_
    refine lv_lload_n hx hb dX1_dividing_12 rfl (lv_at hl 1 rfl) ?_
    obtain ⟨z2, hw⟩ := hw
    refine lv_lrem hx hb dX1_dividing_13 z2 ?_
    refine r_callJ X hR (c_S X hR hl.1 (hrc v2 (v0 - v0 / v2 * v2)) (lw_S q1397 q1398 q115 q1399) mh_X1_dividing rfl (by omega) (by decide) rfl (cat4 (Nat.le_of_ble_eq_true rfl)) dX1_dividing_14 hw) (fun x3 h H locs cells slots hR hw => ?_)
    exact r_lret X hR dX1_dividing_17 hw
  · have hw := hw.2 c1
    refine lv_lload_n hx hb dX1_dividing_6 rfl (lv_at hl 0 rfl) ?_
    refine lv_goto (tgt := 17) hx hb dX1_dividing_7 (by decide) ?_
    exact r_lret X hR dX1_dividing_17 hw
theorem c_X1_dividing (n : Nat) (l : Launch) (g : GT) : ∀ (v0 : Int64) (v2 : Int64), CT qJ l yX1_dividing (ws_ yX1_dividing cX1_dividing 4 (Option.some Jvm.ClassFile.FieldType.long)) (1 + n) g [.long v0, .long v2] (fun K E h => w_X1_dividing n g v0 v2 K E h) := by
  induction n with
  | zero => exact fun _ _ _ _ _ _ _ hw => hw.elim
  | succ n ih => exact fun v0 v2 => c_X1_dividing_B l g (by omega) ih v0 v2
theorem t_X1_lowest_J10 {p : Program} {l : Launch} {e : Env} {s : State} {m : MethodId} {args : Array Value} {below : List Frame} {meth : Method} {c : Code} {g : GT} {h0 : AH} {v0 : Int64} {v2 : Int64} {s0 : Int64} {K : Int64 → AH → Prop} {E : Nat → AH → Prop} {h : AH} {H : Heap} {locs : List Loc} {cells slots : Nat} {ls : Array Slot} (X : Cx g h0 p s m args meth c RX1 cX1_lowest 5 (Option.some Jvm.ClassFile.FieldType.long))  (hw : w_X1_lowest_J10 g v0 v2 s0 K E h) (hR : HS g s h H locs) (hl : lv_has ls 5 [(0, .long v0), (2, .long v2)]) : W p l e (RM 102 h0) s m args below meth c H locs cells slots (MQT below g (qJ K) E args s h0) (F0 m 10 ls [.long s0]) := by
  have hx := X.hx
  have hb := X.hb
  unfold w_X1_lowest_J10 at hw
  refine lv_lload_n hx hb dX1_lowest_10 rfl (lv_at hl 1 rfl) ?_
  refine lv_lload_n hx hb dX1_lowest_11 rfl (lv_at hl 0 rfl) ?_
  refine r_callJ X hR (c_S X hR hl.1 (c_X1_dividing 100 l g v2 v0) (lw_S q1397 q1398 q115 q1399) mh_X1_dividing rfl (by decide) (by decide) rfl (cat4 (Nat.le_of_ble_eq_true rfl)) dX1_lowest_12 hw) (fun x2 h H locs cells slots hR hw => ?_)
  obtain ⟨z3, hw⟩ := hw
  refine lv_ldiv hx hb dX1_lowest_15 z3 ?_
  exact r_lret X hR dX1_lowest_16 hw
theorem c_X1_lowest (l : Launch) (g : GT) (v0 : Int64) (v2 : Int64) (v4 : Int32) : CT qJ l yX1_lowest (ws_ yX1_lowest cX1_lowest 5 (Option.some Jvm.ClassFile.FieldType.long)) 102 g [.long v0, .long v2, .int v4] (fun K E h => w_X1_lowest g v0 v2 v4 K E h) := by
  refine CT_of (lv := [(0, .long v0), (2, .long v2), (4, .int v4)]) (by decide +kernel) (by simp [lg_sl, cat_rf, cat_int, cat_long]) (by simp [lv_args, cat_rf, cat_int, cat_long]) (fun h0 K E p e s m args below meth c H locs cells slots ls X hxt hmn hw hR hl => ?_)
  have hx := X.hx
  have hb := X.hb
  unfold w_X1_lowest at hw
  refine lv_iload hx hb dX1_lowest_0 (lv_at hl 2 rfl) ?_
  refine lv_if_eq (tgt := 9) hx hb dX1_lowest_2 (by decide) (fun c1 => ?_) (fun c1 => ?_)
  · have hw := hw.1 c1
    refine lv_lload_n hx hb dX1_lowest_9 rfl (lv_at hl 0 rfl) ?_
    exact t_X1_lowest_J10 X  hw hR (lv_sub hl [0, 1] rfl)
  · have hw := hw.2 c1
    refine lv_lload_n hx hb dX1_lowest_5 rfl (lv_at hl 1 rfl) ?_
    refine lv_goto (tgt := 10) hx hb dX1_lowest_6 (by decide) ?_
    exact t_X1_lowest_J10 X  hw hR (lv_sub hl [0, 1] rfl)
theorem t_X1_whole_L45 {p : Program} {l : Launch} {e : Env} {s : State} {m : MethodId} {args : Array Value} {below : List Frame} {meth : Method} {c : Code} {g : GT} {h0 : AH} {v0 : Option Nat} {v1 : Int32} {v2 : Int32} {v3 : Int32} {K : Int64 → AH → Prop} {E : Nat → AH → Prop} (X : Cx g h0 p s m args meth c RX1 cX1_whole 9 (Option.some Jvm.ClassFile.FieldType.long))  : ∀ (n : Nat) {v4 : Int64} {v6 : Int64} {v8 : Int32} {h : AH} {H : Heap} {locs : List Loc} {cells slots : Nat} {ls : Array Slot}, LpN3 (w_X1_whole_L45 g v0 v1 v2 v3 K E) n v4 v6 v8 h → HS g s h H locs → lv_has ls 9 [(0, va_rf v0), (1, .int v1), (2, .int v2), (3, .int v3), (4, .long v4), (6, .long v6), (8, .int v8)] → W p l e (RM 103 h0) s m args below meth c H locs cells slots (MQT below g (qJ K) E args s h0) (F0 m 45 ls []) := by
  have hx := X.hx
  have hb := X.hb
  intro n
  induction n with
  | zero =>
    intro v4 v6 v8 h H locs cells slots ls hw
    exact hw.elim
  | succ n k45 =>
    intro v4 v6 v8 h H locs cells slots ls hw hR hl
    have hw : w_X1_whole_L45 g v0 v1 v2 v3 K E (LpN3 (w_X1_whole_L45 g v0 v1 v2 v3 K E) n) v4 v6 v8 h := hw
    unfold w_X1_whole_L45 at hw
    refine lv_iload hx hb dX1_whole_45 (lv_at hl 6 rfl) ?_
    refine lv_iload_n hx hb dX1_whole_47 rfl (lv_at hl 2 rfl) ?_
    refine lv_icmp_ge (tgt := 76) hx hb dX1_whole_48 (by decide) (fun c5 => ?_) (fun c5 => ?_)
    · have hw := hw.1 c5
      refine lv_lload hx hb dX1_whole_76 (lv_at hl 4 rfl) ?_
      refine lv_lload hx hb dX1_whole_78 (lv_at hl 5 rfl) ?_
      refine lv_iload_n hx hb dX1_whole_80 rfl (lv_at hl 3 rfl) ?_
      refine r_callJ X hR (c_S X hR hl.1 (c_X1_lowest l g v4 v6 v3) (lw_S q1394 q1395 q115 q1396) mh_X1_lowest rfl (by decide) (by decide) rfl (cat4 (Nat.le_of_ble_eq_true rfl)) dX1_whole_81 hw) (fun x6 h H locs cells slots hR hw => ?_)
      exact r_lret X hR dX1_whole_84 hw
    · have hw := hw.2 c5
      refine lv_lload hx hb dX1_whole_51 (lv_at hl 4 rfl) ?_
      refine r_aload_n X dX1_whole_53 rfl (lv_at hl 0 rfl) ?_
      refine lv_iload_n hx hb dX1_whole_54 rfl (lv_at hl 1 rfl) ?_
      refine r_callI X hR (c_V (ci := 1) (q := (RX1, TX1, 21)) X hR hl.1 (c_X1_stays l g v0 v1) (lw_V q1378 q1380 qs41 q115 q1381) rfl rfl mh_X1_stays rfl (by decide) (by decide) rfl (cat4 (Nat.le_of_ble_eq_true rfl)) dX1_whole_55 hw) (fun x7 h H locs cells slots hR hw => ?_)
      refine lv_i2l hx hb dX1_whole_58 rfl ?_
      refine lv_lmul hx hb dX1_whole_59 ?_
      refine r_nmJ hw (fun x8 hw => ?_)
      refine lv_lstore (i := 4) (lv' := [(4, .long x8), (0, va_rf v0), (1, .int v1), (2, .int v2), (3, .int v3), (6, .long v6), (8, .int v8)]) hx hb dX1_whole_60 hl (by decide) rfl (fun ls hl => ?_)
      refine lv_lload hx hb dX1_whole_62 (lv_at hl 5 rfl) ?_
      refine lv_ldc2 hx hb X.hown (X.hts _ q1393) dX1_whole_64 ?_
      refine lv_lmul hx hb dX1_whole_67 ?_
      refine r_nmJ hw (fun x9 hw => ?_)
      refine lv_lstore (i := 6) (lv' := [(6, .long x9), (4, .long x8), (0, va_rf v0), (1, .int v1), (2, .int v2), (3, .int v3), (8, .int v8)]) hx hb dX1_whole_68 hl (by decide) rfl (fun ls hl => ?_)
      refine r_iinc X (k := 6) (v := (v8 + 1)) (lv' := fun x10 => [(8, .int x10), (6, .long x9), (4, .long x8), (0, va_rf v0), (1, .int v1), (2, .int v2), (3, .int v3)]) dX1_whole_70 hl rfl rfl (by decide) hw (fun _ => rfl) (fun x10 hw ls hl => ?_)
      refine lv_goto (tgt := 45) hx hb dX1_whole_73 (by decide) ?_
      exact k45 hw hR (lv_sub hl [3, 4, 5, 6, 2, 1, 0] rfl)
theorem c_X1_whole (l : Launch) (g : GT) (v0 : Option Nat) (v1 : Int32) (v2 : Int32) (v3 : Int32) : CT qJ l yX1_whole (ws_ yX1_whole cX1_whole 9 (Option.some Jvm.ClassFile.FieldType.long)) 103 g [va_rf v0, .int v1, .int v2, .int v3] (fun K E h => w_X1_whole g v0 v1 v2 v3 K E h) := by
  refine CT_of (lv := [(0, va_rf v0), (1, .int v1), (2, .int v2), (3, .int v3)]) (by decide +kernel) (by simp [lg_sl, cat_rf, cat_int, cat_long]) (by simp [lv_args, cat_rf, cat_int, cat_long]) (fun h0 K E p e s m args below meth c H locs cells slots ls X hxt hmn hw hR hl => ?_)
  have hx := X.hx
  have hb := X.hb
  unfold w_X1_whole at hw
  refine r_aload_n X dX1_whole_0 rfl (lv_at hl 0 rfl) ?_
  refine r_callV X hR (c_V (ci := 1) (q := (RX1, TX1, 21)) X hR hl.1 (c_X1_anew l g v0) (lw_V q455 q457 qs2 q115 q458) rfl rfl mh_X1_anew rfl (by decide) (by decide) rfl (cat4 (Nat.le_of_ble_eq_true rfl)) dX1_whole_1 hw) (fun _ h H locs cells slots hR hw => ?_)
  refine r_aload_n X dX1_whole_4 rfl (lv_at hl 0 rfl) ?_
  refine lv_iload_n hx hb dX1_whole_5 rfl (lv_at hl 1 rfl) ?_
  refine r_callI X hR (c_V (ci := 1) (q := (RX1, TX1, 21)) X hR hl.1 (c_X1_isUmbrella l g v0 v1) (lw_V q1142 q1144 qs32 q115 q1145) rfl rfl mh_X1_isUmbrella rfl (by decide) (by decide) rfl (cat4 (Nat.le_of_ble_eq_true rfl)) dX1_whole_6 hw) (fun x1 h H locs cells slots hR hw => ?_)
  refine lv_if_ne (tgt := 19) hx hb dX1_whole_9 (by decide) (fun c2 => ?_) (fun c2 => ?_)
  · have hw := hw.1 c2
    refine lv_iload_n hx hb dX1_whole_19 rfl (lv_at hl 2 rfl) ?_
    refine lv_iconst (v := 0) hx hb dX1_whole_20 (by decide) ?_
    refine lv_bipush (v := 6) hx hb dX1_whole_21 (by decide) ?_
    refine r_callI X hR (c_S X hR hl.1 (c_X1_in l g v2 0 6) (lw_S q459 q460 q115 q461) mh_X1_in rfl (by decide) (by decide) rfl (cat4 (Nat.le_of_ble_eq_true rfl)) dX1_whole_23 hw) (fun x3 h H locs cells slots hR hw => ?_)
    refine lv_if_ne (tgt := 36) hx hb dX1_whole_26 (by decide) (fun c4 => ?_) (fun c4 => ?_)
    · have hw := hw.1 c4
      refine lv_lconst (v := 1) hx hb dX1_whole_36 (by decide) ?_
      refine lv_lstore (i := 4) (lv' := [(4, .long 1), (0, va_rf v0), (1, .int v1), (2, .int v2), (3, .int v3)]) hx hb dX1_whole_37 hl (by decide) rfl (fun ls hl => ?_)
      refine lv_lconst (v := 1) hx hb dX1_whole_39 (by decide) ?_
      refine lv_lstore (i := 6) (lv' := [(6, .long 1), (4, .long 1), (0, va_rf v0), (1, .int v1), (2, .int v2), (3, .int v3)]) hx hb dX1_whole_40 hl (by decide) rfl (fun ls hl => ?_)
      refine lv_iconst (v := 0) hx hb dX1_whole_42 (by decide) ?_
      refine lv_istore (i := 8) (lv' := [(8, .int 0), (6, .long 1), (4, .long 1), (0, va_rf v0), (1, .int v1), (2, .int v2), (3, .int v3)]) hx hb dX1_whole_43 hl (by decide) rfl (fun ls hl => ?_)
      obtain ⟨n, hw⟩ := hw
      exact t_X1_whole_L45 X  n hw hR (lv_sub hl [3, 4, 5, 6, 2, 1, 0] rfl)
    · have hw := hw.2 c4
      refine r_aload_n X dX1_whole_29 rfl (lv_at hl 0 rfl) ?_
      refine lv_iconst (v := 2) hx hb dX1_whole_30 (by decide) ?_
      refine r_callI X hR (c_V (ci := 1) (q := (RX1, TX1, 21)) X hR hl.1 (c_X1_no l g v0 2) (lw_V q462 q464 qs3 q115 q465) rfl rfl mh_X1_no rfl (by decide) (by decide) rfl (cat4 (Nat.le_of_ble_eq_true rfl)) dX1_whole_31 hw) (fun x11 h H locs cells slots hR hw => ?_)
      refine lv_i2l hx hb dX1_whole_34 rfl ?_
      exact r_lret X hR dX1_whole_35 hw
  · have hw := hw.2 c2
    refine r_aload_n X dX1_whole_12 rfl (lv_at hl 0 rfl) ?_
    refine lv_iconst (v := 1) hx hb dX1_whole_13 (by decide) ?_
    refine r_callI X hR (c_V (ci := 1) (q := (RX1, TX1, 21)) X hR hl.1 (c_X1_no l g v0 1) (lw_V q462 q464 qs3 q115 q465) rfl rfl mh_X1_no rfl (by decide) (by decide) rfl (cat4 (Nat.le_of_ble_eq_true rfl)) dX1_whole_14 hw) (fun x12 h H locs cells slots hR hw => ?_)
    refine lv_i2l hx hb dX1_whole_17 rfl ?_
    exact r_lret X hR dX1_whole_18 hw
theorem t_X1_allWhole_J107 {p : Program} {l : Launch} {e : Env} {s : State} {m : MethodId} {args : Array Value} {below : List Frame} {meth : Method} {c : Code} {g : GT} {h0 : AH} {v0 : Option Nat} {v3 : Int32} {v4 : Int64} {v6 : Int64} {v8 : Int32} {v9 : Int32} {K : Int64 → AH → Prop} {E : Nat → AH → Prop} {L62 : Int64 → Int64 → Int32 → AH → Prop} {h : AH} {H : Heap} {locs : List Loc} {cells slots : Nat} {ls : Array Slot} (X : Cx g h0 p s m args meth c RX1 cX1_allWhole 10 (Option.some Jvm.ClassFile.FieldType.long)) (k62 : ∀ {v4' : Int64} {v6' : Int64} {v9' : Int32} {h : AH} {H : Heap} {locs : List Loc} {cells slots : Nat} {ls : Array Slot}, L62 v4' v6' v9' h → HS g s h H locs → lv_has ls 10 [(0, va_rf v0), (3, .int v3), (4, .long (v4')), (6, .long (v6')), (8, .int v8), (9, .int (v9'))] → W p l e (RM 103 h0) s m args below meth c H locs cells slots (MQT below g (qJ K) E args s h0) (F0 m 62 ls [])) (hw : w_X1_allWhole_J107 g v0 v3 v4 v6 v8 v9 K E L62 h) (hR : HS g s h H locs) (hl : lv_has ls 10 [(0, va_rf v0), (3, .int v3), (4, .long v4), (6, .long v6), (8, .int v8), (9, .int v9)]) : W p l e (RM 103 h0) s m args below meth c H locs cells slots (MQT below g (qJ K) E args s h0) (F0 m 107 ls []) := by
  have hx := X.hx
  have hb := X.hb
  unfold w_X1_allWhole_J107 at hw
  refine r_iinc X (k := 5) (v := (v9 + 1)) (lv' := fun x17 => [(9, .int x17), (0, va_rf v0), (3, .int v3), (4, .long v4), (6, .long v6), (8, .int v8)]) dX1_allWhole_107 hl rfl rfl (by decide) hw (fun _ => rfl) (fun x17 hw ls hl => ?_)
  refine lv_goto (tgt := 62) hx hb dX1_allWhole_110 (by decide) ?_
  exact k62 hw hR (lv_sub hl [1, 2, 3, 4, 5, 0] rfl)
theorem t_X1_allWhole_L62 {p : Program} {l : Launch} {e : Env} {s : State} {m : MethodId} {args : Array Value} {below : List Frame} {meth : Method} {c : Code} {g : GT} {h0 : AH} {v0 : Option Nat} {v3 : Int32} {v8 : Int32} {K : Int64 → AH → Prop} {E : Nat → AH → Prop} (X : Cx g h0 p s m args meth c RX1 cX1_allWhole 10 (Option.some Jvm.ClassFile.FieldType.long))  : ∀ (n : Nat) {v4 : Int64} {v6 : Int64} {v9 : Int32} {h : AH} {H : Heap} {locs : List Loc} {cells slots : Nat} {ls : Array Slot}, LpN3 (w_X1_allWhole_L62 g v0 v3 v8 K E) n v4 v6 v9 h → HS g s h H locs → lv_has ls 10 [(0, va_rf v0), (3, .int v3), (4, .long v4), (6, .long v6), (8, .int v8), (9, .int v9)] → W p l e (RM 103 h0) s m args below meth c H locs cells slots (MQT below g (qJ K) E args s h0) (F0 m 62 ls []) := by
  have hx := X.hx
  have hb := X.hb
  intro n
  induction n with
  | zero =>
    intro v4 v6 v9 h H locs cells slots ls hw
    exact hw.elim
  | succ n k62 =>
    intro v4 v6 v9 h H locs cells slots ls hw hR hl
    have hw : w_X1_allWhole_L62 g v0 v3 v8 K E (LpN3 (w_X1_allWhole_L62 g v0 v3 v8 K E) n) v4 v6 v9 h := hw
    unfold w_X1_allWhole_L62 at hw
    refine lv_iload hx hb dX1_allWhole_62 (lv_at hl 5 rfl) ?_
    refine r_aload_n X dX1_allWhole_64 rfl (lv_at hl 0 rfl) ?_
    refine r_gR X hR fk_X1_102 dX1_allWhole_65 hw (fun x8 hw => ?_)
    refine r_gI X hR fk_X1_126 dX1_allWhole_68 hw (fun x9 hw => ?_)
    refine lv_icmp_ge (tgt := 113) hx hb dX1_allWhole_71 (by decide) (fun c10 => ?_) (fun c10 => ?_)
    · have hw := hw.1 c10
      refine lv_lload hx hb dX1_allWhole_113 (lv_at hl 2 rfl) ?_
      refine lv_lload hx hb dX1_allWhole_115 (lv_at hl 3 rfl) ?_
      refine lv_iload_n hx hb dX1_allWhole_117 rfl (lv_at hl 1 rfl) ?_
      refine r_callJ X hR (c_S X hR hl.1 (c_X1_lowest l g v4 v6 v3) (lw_S q1394 q1395 q115 q1396) mh_X1_lowest rfl (by decide) (by decide) rfl (cat4 (Nat.le_of_ble_eq_true rfl)) dX1_allWhole_118 hw) (fun x11 h H locs cells slots hR hw => ?_)
      exact r_lret X hR dX1_allWhole_121 hw
    · have hw := hw.2 c10
      refine lv_iload hx hb dX1_allWhole_74 (lv_at hl 4 rfl) ?_
      refine lv_iload hx hb dX1_allWhole_76 (lv_at hl 5 rfl) ?_
      refine r_callI X hR (c_S X hR hl.1 (c_X1_has l g v8 v9) (lw_S q1305 q1125 q115 q1126) mh_X1_has rfl (by decide) (by decide) rfl (cat4 (Nat.le_of_ble_eq_true rfl)) dX1_allWhole_78 hw) (fun x12 h H locs cells slots hR hw => ?_)
      refine lv_if_ne (tgt := 87) hx hb dX1_allWhole_81 (by decide) (fun c13 => ?_) (fun c13 => ?_)
      · have hw := hw.1 c13
        refine lv_lload hx hb dX1_allWhole_87 (lv_at hl 2 rfl) ?_
        refine r_aload_n X dX1_allWhole_89 rfl (lv_at hl 0 rfl) ?_
        refine lv_iload hx hb dX1_allWhole_90 (lv_at hl 5 rfl) ?_
        refine r_callI X hR (c_V (ci := 1) (q := (RX1, TX1, 21)) X hR hl.1 (c_X1_stays l g v0 v9) (lw_V q1378 q1380 qs41 q115 q1381) rfl rfl mh_X1_stays rfl (by decide) (by decide) rfl (cat4 (Nat.le_of_ble_eq_true rfl)) dX1_allWhole_92 hw) (fun x14 h H locs cells slots hR hw => ?_)
        refine lv_i2l hx hb dX1_allWhole_95 rfl ?_
        refine lv_lmul hx hb dX1_allWhole_96 ?_
        refine r_nmJ hw (fun x15 hw => ?_)
        refine lv_lstore (i := 4) (lv' := [(4, .long x15), (0, va_rf v0), (3, .int v3), (6, .long v6), (8, .int v8), (9, .int v9)]) hx hb dX1_allWhole_97 hl (by decide) rfl (fun ls hl => ?_)
        refine lv_lload hx hb dX1_allWhole_99 (lv_at hl 3 rfl) ?_
        refine lv_ldc2 hx hb X.hown (X.hts _ q1393) dX1_allWhole_101 ?_
        refine lv_lmul hx hb dX1_allWhole_104 ?_
        refine r_nmJ hw (fun x16 hw => ?_)
        refine lv_lstore (i := 6) (lv' := [(6, .long x16), (4, .long x15), (0, va_rf v0), (3, .int v3), (8, .int v8), (9, .int v9)]) hx hb dX1_allWhole_105 hl (by decide) rfl (fun ls hl => ?_)
        exact t_X1_allWhole_J107 X k62 hw hR (lv_sub hl [2, 3, 1, 0, 4, 5] rfl)
      · have hw := hw.2 c13
        refine lv_goto (tgt := 107) hx hb dX1_allWhole_84 (by decide) ?_
        exact t_X1_allWhole_J107 X k62 hw hR (lv_sub hl [0, 1, 2, 3, 4, 5] rfl)
theorem t_X1_allWhole_J57 {p : Program} {l : Launch} {e : Env} {s : State} {m : MethodId} {args : Array Value} {below : List Frame} {meth : Method} {c : Code} {g : GT} {h0 : AH} {v0 : Option Nat} {v3 : Int32} {v4 : Int64} {v6 : Int64} {s0 : Int32} {K : Int64 → AH → Prop} {E : Nat → AH → Prop} {h : AH} {H : Heap} {locs : List Loc} {cells slots : Nat} {ls : Array Slot} (X : Cx g h0 p s m args meth c RX1 cX1_allWhole 10 (Option.some Jvm.ClassFile.FieldType.long))  (hw : w_X1_allWhole_J57 g v0 v3 v4 v6 s0 K E h) (hR : HS g s h H locs) (hl : lv_has ls 10 [(0, va_rf v0), (3, .int v3), (4, .long v4), (6, .long v6)]) : W p l e (RM 103 h0) s m args below meth c H locs cells slots (MQT below g (qJ K) E args s h0) (F0 m 57 ls [.int s0]) := by
  have hx := X.hx
  have hb := X.hb
  unfold w_X1_allWhole_J57 at hw
  refine lv_istore (i := 8) (lv' := [(8, .int s0), (0, va_rf v0), (3, .int v3), (4, .long v4), (6, .long v6)]) hx hb dX1_allWhole_57 hl (by decide) rfl (fun ls hl => ?_)
  refine lv_iconst (v := 0) hx hb dX1_allWhole_59 (by decide) ?_
  refine lv_istore (i := 9) (lv' := [(9, .int 0), (8, .int s0), (0, va_rf v0), (3, .int v3), (4, .long v4), (6, .long v6)]) hx hb dX1_allWhole_60 hl (by decide) rfl (fun ls hl => ?_)
  obtain ⟨n, hw⟩ := hw
  exact t_X1_allWhole_L62 X  n hw hR (lv_sub hl [2, 3, 4, 5, 1, 0] rfl)
theorem c_X1_allWhole (l : Launch) (g : GT) (v0 : Option Nat) (v1 : Int32) (v2 : Int32) (v3 : Int32) : CT qJ l yX1_allWhole (ws_ yX1_allWhole cX1_allWhole 10 (Option.some Jvm.ClassFile.FieldType.long)) 103 g [va_rf v0, .int v1, .int v2, .int v3] (fun K E h => w_X1_allWhole g v0 v1 v2 v3 K E h) := by
  refine CT_of (lv := [(0, va_rf v0), (1, .int v1), (2, .int v2), (3, .int v3)]) (by decide +kernel) (by simp [lg_sl, cat_rf, cat_int, cat_long]) (by simp [lv_args, cat_rf, cat_int, cat_long]) (fun h0 K E p e s m args below meth c H locs cells slots ls X hxt hmn hw hR hl => ?_)
  have hx := X.hx
  have hb := X.hb
  unfold w_X1_allWhole at hw
  refine r_aload_n X dX1_allWhole_0 rfl (lv_at hl 0 rfl) ?_
  refine r_callV X hR (c_V (ci := 1) (q := (RX1, TX1, 21)) X hR hl.1 (c_X1_anew l g v0) (lw_V q455 q457 qs2 q115 q458) rfl rfl mh_X1_anew rfl (by decide) (by decide) rfl (cat4 (Nat.le_of_ble_eq_true rfl)) dX1_allWhole_1 hw) (fun _ h H locs cells slots hR hw => ?_)
  refine r_aload_n X dX1_allWhole_4 rfl (lv_at hl 0 rfl) ?_
  refine lv_iload_n hx hb dX1_allWhole_5 rfl (lv_at hl 1 rfl) ?_
  refine r_callI X hR (c_V (ci := 1) (q := (RX1, TX1, 21)) X hR hl.1 (c_X1_isPerson l g v0 v1) (lw_V q1165 q1167 qs33 q115 q1168) rfl rfl mh_X1_isPerson rfl (by decide) (by decide) rfl (cat4 (Nat.le_of_ble_eq_true rfl)) dX1_allWhole_6 hw) (fun x1 h H locs cells slots hR hw => ?_)
  refine lv_if_ne (tgt := 19) hx hb dX1_allWhole_9 (by decide) (fun c2 => ?_) (fun c2 => ?_)
  · have hw := hw.1 c2
    refine lv_iload_n hx hb dX1_allWhole_19 rfl (lv_at hl 2 rfl) ?_
    refine lv_iconst (v := 0) hx hb dX1_allWhole_20 (by decide) ?_
    refine lv_iconst (v := 1) hx hb dX1_allWhole_21 (by decide) ?_
    refine r_callI X hR (c_S X hR hl.1 (c_X1_in l g v2 0 1) (lw_S q459 q460 q115 q461) mh_X1_in rfl (by decide) (by decide) rfl (cat4 (Nat.le_of_ble_eq_true rfl)) dX1_allWhole_22 hw) (fun x3 h H locs cells slots hR hw => ?_)
    refine lv_if_ne (tgt := 35) hx hb dX1_allWhole_25 (by decide) (fun c4 => ?_) (fun c4 => ?_)
    · have hw := hw.1 c4
      refine lv_lconst (v := 1) hx hb dX1_allWhole_35 (by decide) ?_
      refine lv_lstore (i := 4) (lv' := [(4, .long 1), (0, va_rf v0), (1, .int v1), (2, .int v2), (3, .int v3)]) hx hb dX1_allWhole_36 hl (by decide) rfl (fun ls hl => ?_)
      refine lv_lconst (v := 1) hx hb dX1_allWhole_38 (by decide) ?_
      refine lv_lstore (i := 6) (lv' := [(6, .long 1), (4, .long 1), (0, va_rf v0), (1, .int v1), (2, .int v2), (3, .int v3)]) hx hb dX1_allWhole_39 hl (by decide) rfl (fun ls hl => ?_)
      refine lv_iload_n hx hb dX1_allWhole_41 rfl (lv_at hl 4 rfl) ?_
      refine lv_if_ne (tgt := 49) hx hb dX1_allWhole_42 (by decide) (fun c5 => ?_) (fun c5 => ?_)
      · have hw := hw.1 c5
        refine r_aload_n X dX1_allWhole_49 rfl (lv_at hl 2 rfl) ?_
        refine r_gR X hR fk_X1_33 dX1_allWhole_50 hw (fun x6 hw => ?_)
        refine lv_iload_n hx hb dX1_allWhole_53 rfl (lv_at hl 3 rfl) ?_
        refine r_callI X hR (c_V (ci := 4) (q := (RX4, TX4, 4)) X hR hl.1 (c_X4_has l g x6 v1) (lw_V q1181 q1118 q1119 q121 q1120) rfl rfl mh_X4_has rfl (by decide) (by decide) rfl (cat4 (Nat.le_of_ble_eq_true rfl)) dX1_allWhole_54 hw) (fun x7 h H locs cells slots hR hw => ?_)
        exact t_X1_allWhole_J57 X  hw hR (lv_sub hl [2, 5, 1, 0] rfl)
      · have hw := hw.2 c5
        refine lv_iconst (v := 0) hx hb dX1_allWhole_45 (by decide) ?_
        refine lv_goto (tgt := 57) hx hb dX1_allWhole_46 (by decide) ?_
        exact t_X1_allWhole_J57 X  hw hR (lv_sub hl [2, 5, 1, 0] rfl)
    · have hw := hw.2 c4
      refine r_aload_n X dX1_allWhole_28 rfl (lv_at hl 0 rfl) ?_
      refine lv_iconst (v := 2) hx hb dX1_allWhole_29 (by decide) ?_
      refine r_callI X hR (c_V (ci := 1) (q := (RX1, TX1, 21)) X hR hl.1 (c_X1_no l g v0 2) (lw_V q462 q464 qs3 q115 q465) rfl rfl mh_X1_no rfl (by decide) (by decide) rfl (cat4 (Nat.le_of_ble_eq_true rfl)) dX1_allWhole_30 hw) (fun x18 h H locs cells slots hR hw => ?_)
      refine lv_i2l hx hb dX1_allWhole_33 rfl ?_
      exact r_lret X hR dX1_allWhole_34 hw
  · have hw := hw.2 c2
    refine r_aload_n X dX1_allWhole_12 rfl (lv_at hl 0 rfl) ?_
    refine lv_iconst (v := 1) hx hb dX1_allWhole_13 (by decide) ?_
    refine r_callI X hR (c_V (ci := 1) (q := (RX1, TX1, 21)) X hR hl.1 (c_X1_no l g v0 1) (lw_V q462 q464 qs3 q115 q465) rfl rfl mh_X1_no rfl (by decide) (by decide) rfl (cat4 (Nat.le_of_ble_eq_true rfl)) dX1_allWhole_14 hw) (fun x19 h H locs cells slots hR hw => ?_)
    refine lv_i2l hx hb dX1_allWhole_17 rfl ?_
    exact r_lret X hR dX1_allWhole_18 hw
theorem t_X1_divided_J82 {p : Program} {l : Launch} {e : Env} {s : State} {m : MethodId} {args : Array Value} {below : List Frame} {meth : Method} {c : Code} {g : GT} {h0 : AH} {s0 : Int32} {s1 : Int32} {K : Int32 → AH → Prop} {E : Nat → AH → Prop} {h : AH} {H : Heap} {locs : List Loc} {cells slots : Nat} {ls : Array Slot} (X : Cx g h0 p s m args meth c RX1 cX1_divided 5 (Option.some Jvm.ClassFile.FieldType.int))  (hw : w_X1_divided_J82 g  s0 s1 K E h) (hR : HS g s h H locs) (hl : lv_has ls 5 []) : W p l e (RM 3 h0) s m args below meth c H locs cells slots (MQT below g (qI K) E args s h0) (F0 m 82 ls [.int s0, .int s1]) := by
  have hx := X.hx
  have hb := X.hb
  unfold w_X1_divided_J82 at hw
  refine lv_iadd hx hb dX1_divided_82 ?_
  exact r_iret X hR dX1_divided_83 hw
theorem c_X1_divided (l : Launch) (g : GT) (v0 : Option Nat) (v1 : Int32) (v2 : Int32) (v3 : Int32) : CT qI l yX1_divided (ws_ yX1_divided cX1_divided 5 (Option.some Jvm.ClassFile.FieldType.int)) 3 g [va_rf v0, .int v1, .int v2, .int v3] (fun K E h => w_X1_divided g v0 v1 v2 v3 K E h) := by
  refine CT_of (lv := [(0, va_rf v0), (1, .int v1), (2, .int v2), (3, .int v3)]) (by decide +kernel) (by simp [lg_sl, cat_rf, cat_int, cat_long]) (by simp [lv_args, cat_rf, cat_int, cat_long]) (fun h0 K E p e s m args below meth c H locs cells slots ls X hxt hmn hw hR hl => ?_)
  have hx := X.hx
  have hb := X.hb
  unfold w_X1_divided at hw
  refine r_aload_n X dX1_divided_0 rfl (lv_at hl 0 rfl) ?_
  refine r_callV X hR (c_V (ci := 1) (q := (RX1, TX1, 21)) X hR hl.1 (c_X1_anew l g v0) (lw_V q455 q457 qs2 q115 q458) rfl rfl mh_X1_anew rfl (by decide) (by decide) rfl (cat4 (Nat.le_of_ble_eq_true rfl)) dX1_divided_1 hw) (fun _ h H locs cells slots hR hw => ?_)
  refine r_aload_n X dX1_divided_4 rfl (lv_at hl 0 rfl) ?_
  refine lv_iload_n hx hb dX1_divided_5 rfl (lv_at hl 1 rfl) ?_
  refine r_callI X hR (c_V (ci := 1) (q := (RX1, TX1, 21)) X hR hl.1 (c_X1_isUmbrella l g v0 v1) (lw_V q1142 q1144 qs32 q115 q1145) rfl rfl mh_X1_isUmbrella rfl (by decide) (by decide) rfl (cat4 (Nat.le_of_ble_eq_true rfl)) dX1_divided_6 hw) (fun x1 h H locs cells slots hR hw => ?_)
  refine lv_if_ne (tgt := 18) hx hb dX1_divided_9 (by decide) (fun c2 => ?_) (fun c2 => ?_)
  · have hw := hw.1 c2
    refine lv_iload_n hx hb dX1_divided_18 rfl (lv_at hl 2 rfl) ?_
    refine lv_iconst (v := 1) hx hb dX1_divided_19 (by decide) ?_
    refine lv_bipush (v := 9) hx hb dX1_divided_20 (by decide) ?_
    refine r_callI X hR (c_S X hR hl.1 (c_X1_in l g v2 1 9) (lw_S q459 q460 q115 q461) mh_X1_in rfl (by decide) (by decide) rfl (cat4 (Nat.le_of_ble_eq_true rfl)) dX1_divided_22 hw) (fun x3 h H locs cells slots hR hw => ?_)
    refine lv_if_ne (tgt := 34) hx hb dX1_divided_25 (by decide) (fun c4 => ?_) (fun c4 => ?_)
    · have hw := hw.1 c4
      refine lv_iload_n hx hb dX1_divided_34 rfl (lv_at hl 3 rfl) ?_
      refine lv_iconst (v := 0) hx hb dX1_divided_35 (by decide) ?_
      refine lv_iload_n hx hb dX1_divided_36 rfl (lv_at hl 2 rfl) ?_
      refine lv_iconst (v := 1) hx hb dX1_divided_37 (by decide) ?_
      refine lv_isub hx hb dX1_divided_38 ?_
      refine r_callI X hR (c_S X hR hl.1 (c_X1_in l g v3 0 (v2 - 1)) (lw_S q459 q460 q115 q461) mh_X1_in rfl (by decide) (by decide) rfl (cat4 (Nat.le_of_ble_eq_true rfl)) dX1_divided_39 hw) (fun x5 h H locs cells slots hR hw => ?_)
      refine lv_if_ne (tgt := 51) hx hb dX1_divided_42 (by decide) (fun c6 => ?_) (fun c6 => ?_)
      · have hw := hw.1 c6
        refine r_aload_n X dX1_divided_51 rfl (lv_at hl 0 rfl) ?_
        refine r_gR X hR fk_X1_102 dX1_divided_52 hw (fun x7 hw => ?_)
        refine r_gR X hR fk_X1_138 dX1_divided_55 hw (fun x8 hw => ?_)
        refine lv_iload_n hx hb dX1_divided_58 rfl (lv_at hl 1 rfl) ?_
        refine r_aald X hR (t := 6) (by decide) (by decide) dX1_divided_59 hw (fun x9 hw => ?_)
        refine r_gI X hR fk_X1_148 dX1_divided_60 hw (fun x10 hw => ?_)
        refine lv_istore (i := 4) (lv' := [(4, .int x10), (0, va_rf v0), (1, .int v1), (2, .int v2), (3, .int v3)]) hx hb dX1_divided_63 hl (by decide) rfl (fun ls hl => ?_)
        refine lv_iload hx hb dX1_divided_65 (lv_at hl 0 rfl) ?_
        refine lv_iload_n hx hb dX1_divided_67 rfl (lv_at hl 3 rfl) ?_
        obtain ⟨z11, hw⟩ := hw
        refine lv_idiv hx hb dX1_divided_68 z11 ?_
        refine lv_iload_n hx hb dX1_divided_69 rfl (lv_at hl 4 rfl) ?_
        refine lv_iload hx hb dX1_divided_70 (lv_at hl 0 rfl) ?_
        refine lv_iload_n hx hb dX1_divided_72 rfl (lv_at hl 3 rfl) ?_
        obtain ⟨z12, hw⟩ := hw
        refine lv_irem hx hb dX1_divided_73 z12 ?_
        refine lv_icmp_ge (tgt := 81) hx hb dX1_divided_74 (by decide) (fun c13 => ?_) (fun c13 => ?_)
        · have hw := hw.1 c13
          refine lv_iconst (v := 0) hx hb dX1_divided_81 (by decide) ?_
          exact t_X1_divided_J82 X  hw hR (lv_sub hl [] rfl)
        · have hw := hw.2 c13
          refine lv_iconst (v := 1) hx hb dX1_divided_77 (by decide) ?_
          refine lv_goto (tgt := 82) hx hb dX1_divided_78 (by decide) ?_
          exact t_X1_divided_J82 X  hw hR (lv_sub hl [] rfl)
      · have hw := hw.2 c6
        refine r_aload_n X dX1_divided_45 rfl (lv_at hl 0 rfl) ?_
        refine lv_iconst (v := 1) hx hb dX1_divided_46 (by decide) ?_
        refine r_callI X hR (c_V (ci := 1) (q := (RX1, TX1, 21)) X hR hl.1 (c_X1_no l g v0 1) (lw_V q462 q464 qs3 q115 q465) rfl rfl mh_X1_no rfl (by decide) (by decide) rfl (cat4 (Nat.le_of_ble_eq_true rfl)) dX1_divided_47 hw) (fun x14 h H locs cells slots hR hw => ?_)
        exact r_iret X hR dX1_divided_50 hw
    · have hw := hw.2 c4
      refine r_aload_n X dX1_divided_28 rfl (lv_at hl 0 rfl) ?_
      refine lv_iconst (v := 2) hx hb dX1_divided_29 (by decide) ?_
      refine r_callI X hR (c_V (ci := 1) (q := (RX1, TX1, 21)) X hR hl.1 (c_X1_no l g v0 2) (lw_V q462 q464 qs3 q115 q465) rfl rfl mh_X1_no rfl (by decide) (by decide) rfl (cat4 (Nat.le_of_ble_eq_true rfl)) dX1_divided_30 hw) (fun x15 h H locs cells slots hR hw => ?_)
      exact r_iret X hR dX1_divided_33 hw
  · have hw := hw.2 c2
    refine r_aload_n X dX1_divided_12 rfl (lv_at hl 0 rfl) ?_
    refine lv_iconst (v := 1) hx hb dX1_divided_13 (by decide) ?_
    refine r_callI X hR (c_V (ci := 1) (q := (RX1, TX1, 21)) X hR hl.1 (c_X1_no l g v0 1) (lw_V q462 q464 qs3 q115 q465) rfl rfl mh_X1_no rfl (by decide) (by decide) rfl (cat4 (Nat.le_of_ble_eq_true rfl)) dX1_divided_14 hw) (fun x16 h H locs cells slots hR hw => ?_)
    exact r_iret X hR dX1_divided_17 hw
theorem t_X1_heirsOf_J21 {p : Program} {l : Launch} {e : Env} {s : State} {m : MethodId} {args : Array Value} {below : List Frame} {meth : Method} {c : Code} {g : GT} {h0 : AH} {v1 : Int32} {s0 : Int32} {K : Int32 → AH → Prop} {E : Nat → AH → Prop} {h : AH} {H : Heap} {locs : List Loc} {cells slots : Nat} {ls : Array Slot} (X : Cx g h0 p s m args meth c RX1 cX1_heirsOf 3 (Option.some Jvm.ClassFile.FieldType.int))  (hw : w_X1_heirsOf_J21 g v1 s0 K E h) (hR : HS g s h H locs) (hl : lv_has ls 3 [(1, .int v1)]) : W p l e (RM 1 h0) s m args below meth c H locs cells slots (MQT below g (qI K) E args s h0) (F0 m 21 ls [.int s0]) := by
  have hx := X.hx
  have hb := X.hb
  unfold w_X1_heirsOf_J21 at hw
  refine lv_iconst (v := 2) hx hb dX1_heirsOf_21 (by decide) ?_
  refine lv_iload_n hx hb dX1_heirsOf_22 rfl (lv_at hl 0 rfl) ?_
  refine lv_imul hx hb dX1_heirsOf_23 ?_
  refine lv_isub hx hb dX1_heirsOf_24 ?_
  exact r_iret X hR dX1_heirsOf_25 hw
theorem c_X1_heirsOf (l : Launch) (g : GT) (v0 : Int32) (v1 : Int32) (v2 : Int32) : CT qI l yX1_heirsOf (ws_ yX1_heirsOf cX1_heirsOf 3 (Option.some Jvm.ClassFile.FieldType.int)) 1 g [.int v0, .int v1, .int v2] (fun K E h => w_X1_heirsOf g v0 v1 v2 K E h) := by
  refine CT_of (lv := [(0, .int v0), (1, .int v1), (2, .int v2)]) (by decide +kernel) (by simp [lg_sl, cat_rf, cat_int, cat_long]) (by simp [lv_args, cat_rf, cat_int, cat_long]) (fun h0 K E p e s m args below meth c H locs cells slots ls X hxt hmn hw hR hl => ?_)
  have hx := X.hx
  have hb := X.hb
  unfold w_X1_heirsOf at hw
  refine lv_iload_n hx hb dX1_heirsOf_0 rfl (lv_at hl 1 rfl) ?_
  refine lv_iload_n hx hb dX1_heirsOf_1 rfl (lv_at hl 2 rfl) ?_
  refine lv_icmp_le (tgt := 9) hx hb dX1_heirsOf_2 (by decide) (fun c1 => ?_) (fun c1 => ?_)
  · have hw := hw.1 c1
    refine lv_iload_n hx hb dX1_heirsOf_9 rfl (lv_at hl 1 rfl) ?_
    refine lv_iload_n hx hb dX1_heirsOf_10 rfl (lv_at hl 2 rfl) ?_
    refine lv_icmp_ne (tgt := 20) hx hb dX1_heirsOf_11 (by decide) (fun c2 => ?_) (fun c2 => ?_)
    · have hw := hw.1 c2
      refine lv_iconst (v := 0) hx hb dX1_heirsOf_20 (by decide) ?_
      exact t_X1_heirsOf_J21 X  hw hR (lv_sub hl [1] rfl)
    · have hw := hw.2 c2
      refine lv_iload_n hx hb dX1_heirsOf_14 rfl (lv_at hl 0 rfl) ?_
      refine lv_iconst (v := 2) hx hb dX1_heirsOf_15 (by decide) ?_
      refine lv_idiv hx hb dX1_heirsOf_16 (by decide) ?_
      refine lv_goto (tgt := 21) hx hb dX1_heirsOf_17 (by decide) ?_
      exact t_X1_heirsOf_J21 X  hw hR (lv_sub hl [1] rfl)
  · have hw := hw.2 c1
    refine lv_iload_n hx hb dX1_heirsOf_5 rfl (lv_at hl 0 rfl) ?_
    refine lv_goto (tgt := 21) hx hb dX1_heirsOf_6 (by decide) ?_
    exact t_X1_heirsOf_J21 X  hw hR (lv_sub hl [1] rfl)
theorem t_X1_heirs_J75 {p : Program} {l : Launch} {e : Env} {s : State} {m : MethodId} {args : Array Value} {below : List Frame} {meth : Method} {c : Code} {g : GT} {h0 : AH} {s0 : Int32} {s1 : Option Nat} {K : Int32 → AH → Prop} {E : Nat → AH → Prop} {h : AH} {H : Heap} {locs : List Loc} {cells slots : Nat} {ls : Array Slot} (X : Cx g h0 p s m args meth c RX1 cX1_heirs 5 (Option.some Jvm.ClassFile.FieldType.int))  (hw : w_X1_heirs_J75 g  s0 s1 K E h) (hR : HS g s h H locs) (hl : lv_has ls 5 []) : W p l e (RM 2 h0) s m args below meth c H locs cells slots (MQT below g (qI K) E args s h0) (F0 m 75 ls [.int s0, va_rf s1]) := by
  have hx := X.hx
  have hb := X.hb
  unfold w_X1_heirs_J75 at hw
  refine r_put X hR fp_X1_74 (Or.inl fn_X1_74) (nf_int _) dX1_heirs_75 hw (fun H locs h hR hw => ?_)
  refine lv_bipush (v := (-100)) hx hb dX1_heirs_78 (by decide) ?_
  exact r_iret X hR dX1_heirs_80 hw
theorem t_X1_heirs_J62 {p : Program} {l : Launch} {e : Env} {s : State} {m : MethodId} {args : Array Value} {below : List Frame} {meth : Method} {c : Code} {g : GT} {h0 : AH} {v0 : Option Nat} {K : Int32 → AH → Prop} {E : Nat → AH → Prop} {h : AH} {H : Heap} {locs : List Loc} {cells slots : Nat} {ls : Array Slot} (X : Cx g h0 p s m args meth c RX1 cX1_heirs 5 (Option.some Jvm.ClassFile.FieldType.int))  (hw : w_X1_heirs_J62 g v0 K E h) (hR : HS g s h H locs) (hl : lv_has ls 5 [(0, va_rf v0)]) : W p l e (RM 2 h0) s m args below meth c H locs cells slots (MQT below g (qI K) E args s h0) (F0 m 62 ls []) := by
  have hx := X.hx
  have hb := X.hb
  unfold w_X1_heirs_J62 at hw
  refine r_aload_n X dX1_heirs_62 rfl (lv_at hl 0 rfl) ?_
  refine r_aload_n X dX1_heirs_63 rfl (lv_at hl 0 rfl) ?_
  refine r_gR X hR fk_X1_102 dX1_heirs_64 hw (fun x3 hw => ?_)
  refine r_ifnonnull (tgt := 74) X dX1_heirs_67 (by decide) (fun c4 => ?_) (fun c4 => ?_)
  · have hw := hw.1 c4
    refine lv_iconst (v := 2) hx hb dX1_heirs_74 (by decide) ?_
    exact t_X1_heirs_J75 X  hw hR (lv_sub hl [] rfl)
  · have hw := hw.2 c4
    refine lv_iconst (v := 1) hx hb dX1_heirs_70 (by decide) ?_
    refine lv_goto (tgt := 75) hx hb dX1_heirs_71 (by decide) ?_
    exact t_X1_heirs_J75 X  hw hR (lv_sub hl [] rfl)
theorem c_X1_heirs (l : Launch) (g : GT) (v0 : Option Nat) (v1 : Int32) (v2 : Int32) (v3 : Int32) (v4 : Int32) : CT qI l yX1_heirs (ws_ yX1_heirs cX1_heirs 5 (Option.some Jvm.ClassFile.FieldType.int)) 2 g [va_rf v0, .int v1, .int v2, .int v3, .int v4] (fun K E h => w_X1_heirs g v0 v1 v2 v3 v4 K E h) := by
  refine CT_of (lv := [(0, va_rf v0), (1, .int v1), (2, .int v2), (3, .int v3), (4, .int v4)]) (by decide +kernel) (by simp [lg_sl, cat_rf, cat_int, cat_long]) (by simp [lv_args, cat_rf, cat_int, cat_long]) (fun h0 K E p e s m args below meth c H locs cells slots ls X hxt hmn hw hR hl => ?_)
  have hx := X.hx
  have hb := X.hb
  unfold w_X1_heirs at hw
  refine r_aload_n X dX1_heirs_0 rfl (lv_at hl 0 rfl) ?_
  refine r_callV X hR (c_V (ci := 1) (q := (RX1, TX1, 21)) X hR hl.1 (c_X1_anew l g v0) (lw_V q455 q457 qs2 q115 q458) rfl rfl mh_X1_anew rfl (by decide) (by decide) rfl (cat4 (Nat.le_of_ble_eq_true rfl)) dX1_heirs_1 hw) (fun _ h H locs cells slots hR hw => ?_)
  refine r_aload_n X dX1_heirs_4 rfl (lv_at hl 0 rfl) ?_
  refine r_gR X hR fk_X1_102 dX1_heirs_5 hw (fun x1 hw => ?_)
  refine r_ifnull (tgt := 62) X dX1_heirs_8 (by decide) (fun c2 => ?_) (fun c2 => ?_)
  · have hw := hw.1 c2
    exact t_X1_heirs_J62 X  hw hR (lv_sub hl [0] rfl)
  · have hw := hw.2 c2
    refine lv_iload_n hx hb dX1_heirs_11 rfl (lv_at hl 1 rfl) ?_
    refine lv_iconst (v := 0) hx hb dX1_heirs_12 (by decide) ?_
    refine lv_bipush (v := 99) hx hb dX1_heirs_13 (by decide) ?_
    refine r_callI X hR (c_S X hR hl.1 (c_X1_in l g v1 0 99) (lw_S q459 q460 q115 q461) mh_X1_in rfl (by decide) (by decide) rfl (cat4 (Nat.le_of_ble_eq_true rfl)) dX1_heirs_15 hw) (fun x5 h H locs cells slots hR hw => ?_)
    refine lv_if_eq (tgt := 62) hx hb dX1_heirs_18 (by decide) (fun c6 => ?_) (fun c6 => ?_)
    · have hw := hw.1 c6
      exact t_X1_heirs_J62 X  hw hR (lv_sub hl [0] rfl)
    · have hw := hw.2 c6
      refine lv_iload_n hx hb dX1_heirs_21 rfl (lv_at hl 2 rfl) ?_
      refine lv_iconst (v := 0) hx hb dX1_heirs_22 (by decide) ?_
      refine lv_bipush (v := 6) hx hb dX1_heirs_23 (by decide) ?_
      refine r_callI X hR (c_S X hR hl.1 (c_X1_in l g v2 0 6) (lw_S q459 q460 q115 q461) mh_X1_in rfl (by decide) (by decide) rfl (cat4 (Nat.le_of_ble_eq_true rfl)) dX1_heirs_25 hw) (fun x7 h H locs cells slots hR hw => ?_)
      refine lv_if_eq (tgt := 62) hx hb dX1_heirs_28 (by decide) (fun c8 => ?_) (fun c8 => ?_)
      · have hw := hw.1 c8
        exact t_X1_heirs_J62 X  hw hR (lv_sub hl [0] rfl)
      · have hw := hw.2 c8
        refine lv_iload_n hx hb dX1_heirs_31 rfl (lv_at hl 3 rfl) ?_
        refine lv_iconst (v := 0) hx hb dX1_heirs_32 (by decide) ?_
        refine lv_bipush (v := 6) hx hb dX1_heirs_33 (by decide) ?_
        refine r_callI X hR (c_S X hR hl.1 (c_X1_in l g v3 0 6) (lw_S q459 q460 q115 q461) mh_X1_in rfl (by decide) (by decide) rfl (cat4 (Nat.le_of_ble_eq_true rfl)) dX1_heirs_35 hw) (fun x9 h H locs cells slots hR hw => ?_)
        refine lv_if_eq (tgt := 62) hx hb dX1_heirs_38 (by decide) (fun c10 => ?_) (fun c10 => ?_)
        · have hw := hw.1 c10
          exact t_X1_heirs_J62 X  hw hR (lv_sub hl [0] rfl)
        · have hw := hw.2 c10
          refine lv_iload hx hb dX1_heirs_41 (lv_at hl 4 rfl) ?_
          refine lv_if_eq (tgt := 55) hx hb dX1_heirs_43 (by decide) (fun c11 => ?_) (fun c11 => ?_)
          · have hw := hw.1 c11
            refine lv_iload_n hx hb dX1_heirs_55 rfl (lv_at hl 1 rfl) ?_
            refine lv_iload_n hx hb dX1_heirs_56 rfl (lv_at hl 2 rfl) ?_
            refine lv_iload_n hx hb dX1_heirs_57 rfl (lv_at hl 3 rfl) ?_
            refine r_callI X hR (c_S X hR hl.1 (c_X1_heirsOf l g v1 v2 v3) (lw_S q1412 q1413 q115 q1414) mh_X1_heirsOf rfl (by decide) (by decide) rfl (cat4 (Nat.le_of_ble_eq_true rfl)) dX1_heirs_58 hw) (fun x12 h H locs cells slots hR hw => ?_)
            exact r_iret X hR dX1_heirs_61 hw
          · have hw := hw.2 c11
            refine lv_iload_n hx hb dX1_heirs_46 rfl (lv_at hl 1 rfl) ?_
            refine lv_iload_n hx hb dX1_heirs_47 rfl (lv_at hl 3 rfl) ?_
            refine lv_iload_n hx hb dX1_heirs_48 rfl (lv_at hl 2 rfl) ?_
            refine r_callI X hR (c_S X hR hl.1 (c_X1_heirsOf l g v1 v3 v2) (lw_S q1412 q1413 q115 q1414) mh_X1_heirsOf rfl (by decide) (by decide) rfl (cat4 (Nat.le_of_ble_eq_true rfl)) dX1_heirs_49 hw) (fun x13 h H locs cells slots hR hw => ?_)
            refine lv_goto (tgt := 61) hx hb dX1_heirs_52 (by decide) ?_
            exact r_iret X hR dX1_heirs_61 hw
theorem c_X1_landsWhy (l : Launch) (g : GT) (v0 : Option Nat) (v1 : Int32) : CT qI l yX1_landsWhy (ws_ yX1_landsWhy cX1_landsWhy 2 (Option.some Jvm.ClassFile.FieldType.int)) 2 g [va_rf v0, .int v1] (fun K E h => w_X1_landsWhy g v0 v1 K E h) := by
  refine CT_of (lv := [(0, va_rf v0), (1, .int v1)]) (by decide +kernel) (by simp [lg_sl, cat_rf, cat_int, cat_long]) (by simp [lv_args, cat_rf, cat_int, cat_long]) (fun h0 K E p e s m args below meth c H locs cells slots ls X hxt hmn hw hR hl => ?_)
  have hx := X.hx
  have hb := X.hb
  unfold w_X1_landsWhy at hw
  refine r_aload_n X dX1_landsWhy_0 rfl (lv_at hl 0 rfl) ?_
  refine r_gR X hR fk_X1_102 dX1_landsWhy_1 hw (fun x1 hw => ?_)
  refine r_ifnonnull (tgt := 11) X dX1_landsWhy_4 (by decide) (fun c2 => ?_) (fun c2 => ?_)
  · have hw := hw.1 c2
    refine lv_iload_n hx hb dX1_landsWhy_11 rfl (lv_at hl 1 rfl) ?_
    refine lv_iconst (v := 0) hx hb dX1_landsWhy_12 (by decide) ?_
    refine lv_bipush (v := 99) hx hb dX1_landsWhy_13 (by decide) ?_
    refine r_callI X hR (c_S X hR hl.1 (c_X1_in l g v1 0 99) (lw_S q459 q460 q115 q461) mh_X1_in rfl (by decide) (by decide) rfl (cat4 (Nat.le_of_ble_eq_true rfl)) dX1_landsWhy_15 hw) (fun x3 h H locs cells slots hR hw => ?_)
    refine lv_if_eq (tgt := 25) hx hb dX1_landsWhy_18 (by decide) (fun c4 => ?_) (fun c4 => ?_)
    · have hw := hw.1 c4
      refine lv_iconst (v := 2) hx hb dX1_landsWhy_25 (by decide) ?_
      exact r_iret X hR dX1_landsWhy_26 hw
    · have hw := hw.2 c4
      refine lv_iconst (v := 0) hx hb dX1_landsWhy_21 (by decide) ?_
      refine lv_goto (tgt := 26) hx hb dX1_landsWhy_22 (by decide) ?_
      exact r_iret X hR dX1_landsWhy_26 hw
  · have hw := hw.2 c2
    refine lv_iconst (v := 1) hx hb dX1_landsWhy_7 (by decide) ?_
    refine lv_goto (tgt := 26) hx hb dX1_landsWhy_8 (by decide) ?_
    exact r_iret X hR dX1_landsWhy_26 hw
theorem t_X1_isRest_J53 {p : Program} {l : Launch} {e : Env} {s : State} {m : MethodId} {args : Array Value} {below : List Frame} {meth : Method} {c : Code} {g : GT} {h0 : AH} {v0 : Int32} {v1 : Int32} {v2 : Int32} {v4 : Int32} {s0 : Int32} {K : Int32 → AH → Prop} {E : Nat → AH → Prop} {L5 : Int32 → Int32 → AH → Prop} {h : AH} {H : Heap} {locs : List Loc} {cells slots : Nat} {ls : Array Slot} (X : Cx g h0 p s m args meth c RX1 cX1_isRest 5 (Option.some Jvm.ClassFile.FieldType.boolean)) (k5 : ∀ {v3' : Int32} {v4' : Int32} {h : AH} {H : Heap} {locs : List Loc} {cells slots : Nat} {ls : Array Slot}, L5 v3' v4' h → HS g s h H locs → lv_has ls 5 [(0, .int v0), (1, .int v1), (2, .int v2), (3, .int (v3')), (4, .int (v4'))] → W p l e (RM 2 h0) s m args below meth c H locs cells slots (MQT below g (qI K) E args s h0) (F0 m 5 ls [])) (hw : w_X1_isRest_J53 g v0 v1 v2 v4 s0 K E L5 h) (hR : HS g s h H locs) (hl : lv_has ls 5 [(0, .int v0), (1, .int v1), (2, .int v2), (4, .int v4)]) : W p l e (RM 2 h0) s m args below meth c H locs cells slots (MQT below g (qI K) E args s h0) (F0 m 53 ls [.int s0]) := by
  have hx := X.hx
  have hb := X.hb
  unfold w_X1_isRest_J53 at hw
  refine lv_istore_n (i := 3) (lv' := [(3, .int s0), (0, .int v0), (1, .int v1), (2, .int v2), (4, .int v4)]) hx hb dX1_isRest_53 rfl hl (by decide) rfl (fun ls hl => ?_)
  refine r_iinc X (k := 4) (v := (v4 + 1)) (lv' := fun x3 => [(4, .int x3), (3, .int s0), (0, .int v0), (1, .int v1), (2, .int v2)]) dX1_isRest_54 hl rfl rfl (by decide) hw (fun _ => rfl) (fun x3 hw ls hl => ?_)
  refine lv_goto (tgt := 5) hx hb dX1_isRest_57 (by decide) ?_
  exact k5 hw hR (lv_sub hl [2, 3, 4, 1, 0] rfl)
theorem t_X1_isRest_J52 {p : Program} {l : Launch} {e : Env} {s : State} {m : MethodId} {args : Array Value} {below : List Frame} {meth : Method} {c : Code} {g : GT} {h0 : AH} {v0 : Int32} {v1 : Int32} {v2 : Int32} {v4 : Int32} {K : Int32 → AH → Prop} {E : Nat → AH → Prop} {L5 : Int32 → Int32 → AH → Prop} {h : AH} {H : Heap} {locs : List Loc} {cells slots : Nat} {ls : Array Slot} (X : Cx g h0 p s m args meth c RX1 cX1_isRest 5 (Option.some Jvm.ClassFile.FieldType.boolean)) (k5 : ∀ {v3' : Int32} {v4' : Int32} {h : AH} {H : Heap} {locs : List Loc} {cells slots : Nat} {ls : Array Slot}, L5 v3' v4' h → HS g s h H locs → lv_has ls 5 [(0, .int v0), (1, .int v1), (2, .int v2), (3, .int (v3')), (4, .int (v4'))] → W p l e (RM 2 h0) s m args below meth c H locs cells slots (MQT below g (qI K) E args s h0) (F0 m 5 ls [])) (hw : w_X1_isRest_J52 g v0 v1 v2 v4 K E L5 h) (hR : HS g s h H locs) (hl : lv_has ls 5 [(0, .int v0), (1, .int v1), (2, .int v2), (4, .int v4)]) : W p l e (RM 2 h0) s m args below meth c H locs cells slots (MQT below g (qI K) E args s h0) (F0 m 52 ls []) := by
  have hx := X.hx
  have hb := X.hb
  unfold w_X1_isRest_J52 at hw
  refine lv_iconst (v := 0) hx hb dX1_isRest_52 (by decide) ?_
  exact t_X1_isRest_J53 X k5 hw hR (lv_sub hl [0, 1, 2, 3] rfl)
theorem t_X1_isRest_L5 {p : Program} {l : Launch} {e : Env} {s : State} {m : MethodId} {args : Array Value} {below : List Frame} {meth : Method} {c : Code} {g : GT} {h0 : AH} {v0 : Int32} {v1 : Int32} {v2 : Int32} {K : Int32 → AH → Prop} {E : Nat → AH → Prop} (X : Cx g h0 p s m args meth c RX1 cX1_isRest 5 (Option.some Jvm.ClassFile.FieldType.boolean))  : ∀ (n : Nat) {v3 : Int32} {v4 : Int32} {h : AH} {H : Heap} {locs : List Loc} {cells slots : Nat} {ls : Array Slot}, LpN2 (w_X1_isRest_L5 g v0 v1 v2 K E) n v3 v4 h → HS g s h H locs → lv_has ls 5 [(0, .int v0), (1, .int v1), (2, .int v2), (3, .int v3), (4, .int v4)] → W p l e (RM 2 h0) s m args below meth c H locs cells slots (MQT below g (qI K) E args s h0) (F0 m 5 ls []) := by
  have hx := X.hx
  have hb := X.hb
  intro n
  induction n with
  | zero =>
    intro v3 v4 h H locs cells slots ls hw
    exact hw.elim
  | succ n k5 =>
    intro v3 v4 h H locs cells slots ls hw hR hl
    have hw : w_X1_isRest_L5 g v0 v1 v2 K E (LpN2 (w_X1_isRest_L5 g v0 v1 v2 K E) n) v3 v4 h := hw
    unfold w_X1_isRest_L5 at hw
    refine lv_iload hx hb dX1_isRest_5 (lv_at hl 4 rfl) ?_
    refine lv_bipush (v := 6) hx hb dX1_isRest_7 (by decide) ?_
    refine lv_icmp_gt (tgt := 60) hx hb dX1_isRest_9 (by decide) (fun c1 => ?_) (fun c1 => ?_)
    · have hw := hw.1 c1
      refine lv_iload_n hx hb dX1_isRest_60 rfl (lv_at hl 3 rfl) ?_
      exact r_zret X hR dX1_isRest_61 hw
    · have hw := hw.2 c1
      refine lv_iload_n hx hb dX1_isRest_12 rfl (lv_at hl 3 rfl) ?_
      refine lv_if_eq (tgt := 52) hx hb dX1_isRest_13 (by decide) (fun c2 => ?_) (fun c2 => ?_)
      · have hw := hw.1 c2
        exact t_X1_isRest_J52 X k5 hw hR (lv_sub hl [0, 1, 2, 4] rfl)
      · have hw := hw.2 c2
        refine lv_iload_n hx hb dX1_isRest_16 rfl (lv_at hl 0 rfl) ?_
        refine lv_iload hx hb dX1_isRest_17 (lv_at hl 4 rfl) ?_
        refine lv_iload_n hx hb dX1_isRest_19 rfl (lv_at hl 2 rfl) ?_
        refine r_callI X hR (c_S X hR hl.1 (c_X1_heirsOf l g v0 v4 v2) (lw_S q1412 q1413 q115 q1414) mh_X1_heirsOf rfl (by decide) (by decide) rfl (cat4 (Nat.le_of_ble_eq_true rfl)) dX1_isRest_20 hw) (fun x4 h H locs cells slots hR hw => ?_)
        refine lv_iload_n hx hb dX1_isRest_23 rfl (lv_at hl 0 rfl) ?_
        refine lv_iload_n hx hb dX1_isRest_24 rfl (lv_at hl 1 rfl) ?_
        refine lv_iload_n hx hb dX1_isRest_25 rfl (lv_at hl 2 rfl) ?_
        refine r_callI X hR (c_S X hR hl.1 (c_X1_heirsOf l g v0 v1 v2) (lw_S q1412 q1413 q115 q1414) mh_X1_heirsOf rfl (by decide) (by decide) rfl (cat4 (Nat.le_of_ble_eq_true rfl)) dX1_isRest_26 hw) (fun x5 h H locs cells slots hR hw => ?_)
        refine lv_icmp_gt (tgt := 52) hx hb dX1_isRest_29 (by decide) (fun c6 => ?_) (fun c6 => ?_)
        · have hw := hw.1 c6
          exact t_X1_isRest_J52 X k5 hw hR (lv_sub hl [0, 1, 2, 4] rfl)
        · have hw := hw.2 c6
          refine lv_iload_n hx hb dX1_isRest_32 rfl (lv_at hl 0 rfl) ?_
          refine lv_iload hx hb dX1_isRest_33 (lv_at hl 4 rfl) ?_
          refine lv_iload_n hx hb dX1_isRest_35 rfl (lv_at hl 1 rfl) ?_
          refine r_callI X hR (c_S X hR hl.1 (c_X1_heirsOf l g v0 v4 v1) (lw_S q1412 q1413 q115 q1414) mh_X1_heirsOf rfl (by decide) (by decide) rfl (cat4 (Nat.le_of_ble_eq_true rfl)) dX1_isRest_36 hw) (fun x7 h H locs cells slots hR hw => ?_)
          refine lv_iload_n hx hb dX1_isRest_39 rfl (lv_at hl 0 rfl) ?_
          refine lv_iload_n hx hb dX1_isRest_40 rfl (lv_at hl 2 rfl) ?_
          refine lv_iload_n hx hb dX1_isRest_41 rfl (lv_at hl 1 rfl) ?_
          refine r_callI X hR (c_S X hR hl.1 (c_X1_heirsOf l g v0 v2 v1) (lw_S q1412 q1413 q115 q1414) mh_X1_heirsOf rfl (by decide) (by decide) rfl (cat4 (Nat.le_of_ble_eq_true rfl)) dX1_isRest_42 hw) (fun x8 h H locs cells slots hR hw => ?_)
          refine lv_icmp_gt (tgt := 52) hx hb dX1_isRest_45 (by decide) (fun c9 => ?_) (fun c9 => ?_)
          · have hw := hw.1 c9
            exact t_X1_isRest_J52 X k5 hw hR (lv_sub hl [0, 1, 2, 4] rfl)
          · have hw := hw.2 c9
            refine lv_iconst (v := 1) hx hb dX1_isRest_48 (by decide) ?_
            refine lv_goto (tgt := 53) hx hb dX1_isRest_49 (by decide) ?_
            exact t_X1_isRest_J53 X k5 hw hR (lv_sub hl [0, 1, 2, 4] rfl)
theorem c_X1_isRest (l : Launch) (g : GT) (v0 : Int32) (v1 : Int32) (v2 : Int32) : CT qI l yX1_isRest (ws_ yX1_isRest cX1_isRest 5 (Option.some Jvm.ClassFile.FieldType.boolean)) 2 g [.int v0, .int v1, .int v2] (fun K E h => w_X1_isRest g v0 v1 v2 K E h) := by
  refine CT_of (lv := [(0, .int v0), (1, .int v1), (2, .int v2)]) (by decide +kernel) (by simp [lg_sl, cat_rf, cat_int, cat_long]) (by simp [lv_args, cat_rf, cat_int, cat_long]) (fun h0 K E p e s m args below meth c H locs cells slots ls X hxt hmn hw hR hl => ?_)
  have hx := X.hx
  have hb := X.hb
  unfold w_X1_isRest at hw
  refine lv_iconst (v := 1) hx hb dX1_isRest_0 (by decide) ?_
  refine lv_istore_n (i := 3) (lv' := [(3, .int 1), (0, .int v0), (1, .int v1), (2, .int v2)]) hx hb dX1_isRest_1 rfl hl (by decide) rfl (fun ls hl => ?_)
  refine lv_iconst (v := 0) hx hb dX1_isRest_2 (by decide) ?_
  refine lv_istore (i := 4) (lv' := [(4, .int 0), (3, .int 1), (0, .int v0), (1, .int v1), (2, .int v2)]) hx hb dX1_isRest_3 hl (by decide) rfl (fun ls hl => ?_)
  obtain ⟨n, hw⟩ := hw
  exact t_X1_isRest_L5 X  n hw hR (lv_sub hl [2, 3, 4, 1, 0] rfl)
theorem t_X1_seekRests_J57 {p : Program} {l : Launch} {e : Env} {s : State} {m : MethodId} {args : Array Value} {below : List Frame} {meth : Method} {c : Code} {g : GT} {h0 : AH} {v0 : Option Nat} {v1 : Int32} {v2 : Int32} {v3 : Int32} {v4 : Int32} {K : Int32 → AH → Prop} {E : Nat → AH → Prop} {L19 : Int32 → Int32 → AH → Prop} {h : AH} {H : Heap} {locs : List Loc} {cells slots : Nat} {ls : Array Slot} (X : Cx g h0 p s m args meth c RX1 cX1_seekRests 5 (Option.some Jvm.ClassFile.FieldType.int)) (k19 : ∀ {v2' : Int32} {v4' : Int32} {h : AH} {H : Heap} {locs : List Loc} {cells slots : Nat} {ls : Array Slot}, L19 v2' v4' h → HS g s h H locs → lv_has ls 5 [(0, va_rf v0), (1, .int v1), (2, .int (v2')), (3, .int v3), (4, .int (v4'))] → W p l e (RM 3 h0) s m args below meth c H locs cells slots (MQT below g (qI K) E args s h0) (F0 m 19 ls [])) (hw : w_X1_seekRests_J57 g v0 v1 v2 v3 v4 K E L19 h) (hR : HS g s h H locs) (hl : lv_has ls 5 [(0, va_rf v0), (1, .int v1), (2, .int v2), (3, .int v3), (4, .int v4)]) : W p l e (RM 3 h0) s m args below meth c H locs cells slots (MQT below g (qI K) E args s h0) (F0 m 57 ls []) := by
  have hx := X.hx
  have hb := X.hb
  unfold w_X1_seekRests_J57 at hw
  refine r_iinc X (k := 4) (v := (v4 + 1)) (lv' := fun x8 => [(4, .int x8), (0, va_rf v0), (1, .int v1), (2, .int v2), (3, .int v3)]) dX1_seekRests_57 hl rfl rfl (by decide) hw (fun _ => rfl) (fun x8 hw ls hl => ?_)
  refine lv_goto (tgt := 19) hx hb dX1_seekRests_60 (by decide) ?_
  exact k19 hw hR (lv_sub hl [1, 2, 3, 4, 0] rfl)
theorem t_X1_seekRests_J54 {p : Program} {l : Launch} {e : Env} {s : State} {m : MethodId} {args : Array Value} {below : List Frame} {meth : Method} {c : Code} {g : GT} {h0 : AH} {v0 : Option Nat} {v1 : Int32} {v2 : Int32} {v3 : Int32} {v4 : Int32} {K : Int32 → AH → Prop} {E : Nat → AH → Prop} {L19 : Int32 → Int32 → AH → Prop} {h : AH} {H : Heap} {locs : List Loc} {cells slots : Nat} {ls : Array Slot} (X : Cx g h0 p s m args meth c RX1 cX1_seekRests 5 (Option.some Jvm.ClassFile.FieldType.int)) (k19 : ∀ {v2' : Int32} {v4' : Int32} {h : AH} {H : Heap} {locs : List Loc} {cells slots : Nat} {ls : Array Slot}, L19 v2' v4' h → HS g s h H locs → lv_has ls 5 [(0, va_rf v0), (1, .int v1), (2, .int (v2')), (3, .int v3), (4, .int (v4'))] → W p l e (RM 3 h0) s m args below meth c H locs cells slots (MQT below g (qI K) E args s h0) (F0 m 19 ls [])) (hw : w_X1_seekRests_J54 g v0 v1 v2 v3 v4 K E L19 h) (hR : HS g s h H locs) (hl : lv_has ls 5 [(0, va_rf v0), (1, .int v1), (2, .int v2), (3, .int v3), (4, .int v4)]) : W p l e (RM 3 h0) s m args below meth c H locs cells slots (MQT below g (qI K) E args s h0) (F0 m 54 ls []) := by
  have hx := X.hx
  have hb := X.hb
  unfold w_X1_seekRests_J54 at hw
  refine r_iinc X (k := 2) (v := (v2 + 1)) (lv' := fun x7 => [(2, .int x7), (0, va_rf v0), (1, .int v1), (3, .int v3), (4, .int v4)]) dX1_seekRests_54 hl rfl rfl (by decide) hw (fun _ => rfl) (fun x7 hw ls hl => ?_)
  exact t_X1_seekRests_J57 X k19 hw hR (lv_sub hl [1, 2, 0, 3, 4] rfl)
theorem t_X1_seekRests_L19 {p : Program} {l : Launch} {e : Env} {s : State} {m : MethodId} {args : Array Value} {below : List Frame} {meth : Method} {c : Code} {g : GT} {h0 : AH} {v0 : Option Nat} {v1 : Int32} {v3 : Int32} {K : Int32 → AH → Prop} {E : Nat → AH → Prop} {L10 : Int32 → Int32 → AH → Prop} (X : Cx g h0 p s m args meth c RX1 cX1_seekRests 5 (Option.some Jvm.ClassFile.FieldType.int)) (k10 : ∀ {v2' : Int32} {v3' : Int32} {h : AH} {H : Heap} {locs : List Loc} {cells slots : Nat} {ls : Array Slot}, L10 v2' v3' h → HS g s h H locs → lv_has ls 5 [(0, va_rf v0), (1, .int v1), (2, .int (v2')), (3, .int (v3'))] → W p l e (RM 3 h0) s m args below meth c H locs cells slots (MQT below g (qI K) E args s h0) (F0 m 10 ls [])) : ∀ (n : Nat) {v2 : Int32} {v4 : Int32} {h : AH} {H : Heap} {locs : List Loc} {cells slots : Nat} {ls : Array Slot}, LpN2 (w_X1_seekRests_L19 g v0 v1 v3 K E L10) n v2 v4 h → HS g s h H locs → lv_has ls 5 [(0, va_rf v0), (1, .int v1), (2, .int v2), (3, .int v3), (4, .int v4)] → W p l e (RM 3 h0) s m args below meth c H locs cells slots (MQT below g (qI K) E args s h0) (F0 m 19 ls []) := by
  have hx := X.hx
  have hb := X.hb
  intro n
  induction n with
  | zero =>
    intro v2 v4 h H locs cells slots ls hw
    exact hw.elim
  | succ n k19 =>
    intro v2 v4 h H locs cells slots ls hw hR hl
    have hw : w_X1_seekRests_L19 g v0 v1 v3 K E L10 (LpN2 (w_X1_seekRests_L19 g v0 v1 v3 K E L10) n) v2 v4 h := hw
    unfold w_X1_seekRests_L19 at hw
    refine lv_iload hx hb dX1_seekRests_19 (lv_at hl 4 rfl) ?_
    refine lv_bipush (v := 6) hx hb dX1_seekRests_21 (by decide) ?_
    refine lv_icmp_gt (tgt := 63) hx hb dX1_seekRests_23 (by decide) (fun c2 => ?_) (fun c2 => ?_)
    · have hw := hw.1 c2
      refine r_iinc X (k := 3) (v := (v3 + 1)) (lv' := fun x3 => [(3, .int x3), (0, va_rf v0), (1, .int v1), (2, .int v2), (4, .int v4)]) dX1_seekRests_63 hl rfl rfl (by decide) hw (fun _ => rfl) (fun x3 hw ls hl => ?_)
      refine lv_goto (tgt := 10) hx hb dX1_seekRests_66 (by decide) ?_
      exact k10 hw hR (lv_sub hl [1, 2, 3, 0] rfl)
    · have hw := hw.2 c2
      refine lv_iload_n hx hb dX1_seekRests_26 rfl (lv_at hl 1 rfl) ?_
      refine lv_iload_n hx hb dX1_seekRests_27 rfl (lv_at hl 3 rfl) ?_
      refine lv_iload hx hb dX1_seekRests_28 (lv_at hl 4 rfl) ?_
      refine r_callI X hR (c_S X hR hl.1 (c_X1_isRest l g v1 v3 v4) (lw_S q1427 q1428 q115 q1429) mh_X1_isRest rfl (by decide) (by decide) rfl (cat4 (Nat.le_of_ble_eq_true rfl)) dX1_seekRests_30 hw) (fun x4 h H locs cells slots hR hw => ?_)
      refine lv_if_ne (tgt := 39) hx hb dX1_seekRests_33 (by decide) (fun c5 => ?_) (fun c5 => ?_)
      · have hw := hw.1 c5
        refine lv_iload_n hx hb dX1_seekRests_39 rfl (lv_at hl 2 rfl) ?_
        refine lv_if_ne (tgt := 54) hx hb dX1_seekRests_40 (by decide) (fun c6 => ?_) (fun c6 => ?_)
        · have hw := hw.1 c6
          exact t_X1_seekRests_J54 X k19 hw hR (lv_sub hl [0, 1, 2, 3, 4] rfl)
        · have hw := hw.2 c6
          refine r_aload_n X dX1_seekRests_43 rfl (lv_at hl 0 rfl) ?_
          refine lv_bipush (v := 10) hx hb dX1_seekRests_44 (by decide) ?_
          refine lv_iload_n hx hb dX1_seekRests_46 rfl (lv_at hl 3 rfl) ?_
          refine lv_imul hx hb dX1_seekRests_47 ?_
          refine lv_iload hx hb dX1_seekRests_48 (lv_at hl 4 rfl) ?_
          refine lv_iadd hx hb dX1_seekRests_50 ?_
          refine r_put X hR fp_X1_271 (Or.inl fn_X1_271) (nf_int _) dX1_seekRests_51 hw (fun H locs h hR hw => ?_)
          exact t_X1_seekRests_J54 X k19 hw hR (lv_sub hl [0, 1, 2, 3, 4] rfl)
      · have hw := hw.2 c5
        refine lv_goto (tgt := 57) hx hb dX1_seekRests_36 (by decide) ?_
        exact t_X1_seekRests_J57 X k19 hw hR (lv_sub hl [0, 1, 2, 3, 4] rfl)
theorem t_X1_seekRests_L10 {p : Program} {l : Launch} {e : Env} {s : State} {m : MethodId} {args : Array Value} {below : List Frame} {meth : Method} {c : Code} {g : GT} {h0 : AH} {v0 : Option Nat} {v1 : Int32} {K : Int32 → AH → Prop} {E : Nat → AH → Prop} (X : Cx g h0 p s m args meth c RX1 cX1_seekRests 5 (Option.some Jvm.ClassFile.FieldType.int))  : ∀ (n : Nat) {v2 : Int32} {v3 : Int32} {h : AH} {H : Heap} {locs : List Loc} {cells slots : Nat} {ls : Array Slot}, LpN2 (w_X1_seekRests_L10 g v0 v1 K E) n v2 v3 h → HS g s h H locs → lv_has ls 5 [(0, va_rf v0), (1, .int v1), (2, .int v2), (3, .int v3)] → W p l e (RM 3 h0) s m args below meth c H locs cells slots (MQT below g (qI K) E args s h0) (F0 m 10 ls []) := by
  have hx := X.hx
  have hb := X.hb
  intro n
  induction n with
  | zero =>
    intro v2 v3 h H locs cells slots ls hw
    exact hw.elim
  | succ n k10 =>
    intro v2 v3 h H locs cells slots ls hw hR hl
    have hw : w_X1_seekRests_L10 g v0 v1 K E (LpN2 (w_X1_seekRests_L10 g v0 v1 K E) n) v2 v3 h := hw
    unfold w_X1_seekRests_L10 at hw
    refine lv_iload_n hx hb dX1_seekRests_10 rfl (lv_at hl 3 rfl) ?_
    refine lv_bipush (v := 6) hx hb dX1_seekRests_11 (by decide) ?_
    refine lv_icmp_gt (tgt := 69) hx hb dX1_seekRests_13 (by decide) (fun c1 => ?_) (fun c1 => ?_)
    · have hw := hw.1 c1
      refine lv_iload_n hx hb dX1_seekRests_69 rfl (lv_at hl 2 rfl) ?_
      exact r_iret X hR dX1_seekRests_70 hw
    · have hw := hw.2 c1
      refine lv_iconst (v := 0) hx hb dX1_seekRests_16 (by decide) ?_
      refine lv_istore (i := 4) (lv' := [(4, .int 0), (0, va_rf v0), (1, .int v1), (2, .int v2), (3, .int v3)]) hx hb dX1_seekRests_17 hl (by decide) rfl (fun ls hl => ?_)
      obtain ⟨n, hw⟩ := hw
      exact t_X1_seekRests_L19 X k10 n hw hR (lv_sub hl [1, 2, 3, 4, 0] rfl)
theorem c_X1_seekRests (l : Launch) (g : GT) (v0 : Option Nat) (v1 : Int32) : CT qI l yX1_seekRests (ws_ yX1_seekRests cX1_seekRests 5 (Option.some Jvm.ClassFile.FieldType.int)) 3 g [va_rf v0, .int v1] (fun K E h => w_X1_seekRests g v0 v1 K E h) := by
  refine CT_of (lv := [(0, va_rf v0), (1, .int v1)]) (by decide +kernel) (by simp [lg_sl, cat_rf, cat_int, cat_long]) (by simp [lv_args, cat_rf, cat_int, cat_long]) (fun h0 K E p e s m args below meth c H locs cells slots ls X hxt hmn hw hR hl => ?_)
  have hx := X.hx
  have hb := X.hb
  unfold w_X1_seekRests at hw
  refine lv_iconst (v := 0) hx hb dX1_seekRests_0 (by decide) ?_
  refine lv_istore_n (i := 2) (lv' := [(2, .int 0), (0, va_rf v0), (1, .int v1)]) hx hb dX1_seekRests_1 rfl hl (by decide) rfl (fun ls hl => ?_)
  refine r_aload_n X dX1_seekRests_2 rfl (lv_at hl 1 rfl) ?_
  refine lv_bipush (v := (-2)) hx hb dX1_seekRests_3 (by decide) ?_
  refine r_put X hR fp_X1_271 (Or.inl fn_X1_271) (nf_int _) dX1_seekRests_5 hw (fun H locs h hR hw => ?_)
  refine lv_iconst (v := 0) hx hb dX1_seekRests_8 (by decide) ?_
  refine lv_istore_n (i := 3) (lv' := [(3, .int 0), (2, .int 0), (0, va_rf v0), (1, .int v1)]) hx hb dX1_seekRests_9 rfl hl (by decide) rfl (fun ls hl => ?_)
  obtain ⟨n, hw⟩ := hw
  exact t_X1_seekRests_L10 X  n hw hR (lv_sub hl [2, 3, 1, 0] rfl)
theorem c_X1_rests (l : Launch) (g : GT) (v0 : Option Nat) (v1 : Int32) : CT qI l yX1_rests (ws_ yX1_rests cX1_rests 3 (Option.some Jvm.ClassFile.FieldType.int)) 4 g [va_rf v0, .int v1] (fun K E h => w_X1_rests g v0 v1 K E h) := by
  refine CT_of (lv := [(0, va_rf v0), (1, .int v1)]) (by decide +kernel) (by simp [lg_sl, cat_rf, cat_int, cat_long]) (by simp [lv_args, cat_rf, cat_int, cat_long]) (fun h0 K E p e s m args below meth c H locs cells slots ls X hxt hmn hw hR hl => ?_)
  have hx := X.hx
  have hb := X.hb
  unfold w_X1_rests at hw
  refine r_aload_n X dX1_rests_0 rfl (lv_at hl 0 rfl) ?_
  refine r_callV X hR (c_V (ci := 1) (q := (RX1, TX1, 21)) X hR hl.1 (c_X1_anew l g v0) (lw_V q455 q457 qs2 q115 q458) rfl rfl mh_X1_anew rfl (by decide) (by decide) rfl (cat4 (Nat.le_of_ble_eq_true rfl)) dX1_rests_1 hw) (fun _ h H locs cells slots hR hw => ?_)
  refine r_aload_n X dX1_rests_4 rfl (lv_at hl 0 rfl) ?_
  refine lv_iload_n hx hb dX1_rests_5 rfl (lv_at hl 1 rfl) ?_
  refine r_callI X hR (c_V (ci := 1) (q := (RX1, TX1, 21)) X hR hl.1 (c_X1_landsWhy l g v0 v1) (lw_V q1419 q1421 qs42 q115 q1422) rfl rfl mh_X1_landsWhy rfl (by decide) (by decide) rfl (cat4 (Nat.le_of_ble_eq_true rfl)) dX1_rests_6 hw) (fun x1 h H locs cells slots hR hw => ?_)
  refine lv_istore_n (i := 2) (lv' := [(2, .int x1), (0, va_rf v0), (1, .int v1)]) hx hb dX1_rests_9 rfl hl (by decide) rfl (fun ls hl => ?_)
  refine lv_iload_n hx hb dX1_rests_10 rfl (lv_at hl 0 rfl) ?_
  refine lv_if_eq (tgt := 22) hx hb dX1_rests_11 (by decide) (fun c2 => ?_) (fun c2 => ?_)
  · have hw := hw.1 c2
    refine r_aload_n X dX1_rests_22 rfl (lv_at hl 1 rfl) ?_
    refine lv_iload_n hx hb dX1_rests_23 rfl (lv_at hl 2 rfl) ?_
    refine r_callI X hR (c_V (ci := 1) (q := (RX1, TX1, 21)) X hR hl.1 (c_X1_seekRests l g v0 v1) (lw_V q1423 q1425 qs43 q115 q1426) rfl rfl mh_X1_seekRests rfl (by decide) (by decide) rfl (cat4 (Nat.le_of_ble_eq_true rfl)) dX1_rests_24 hw) (fun x3 h H locs cells slots hR hw => ?_)
    exact r_iret X hR dX1_rests_27 hw
  · have hw := hw.2 c2
    refine r_aload_n X dX1_rests_14 rfl (lv_at hl 1 rfl) ?_
    refine lv_iload_n hx hb dX1_rests_15 rfl (lv_at hl 0 rfl) ?_
    refine r_callI X hR (c_V (ci := 1) (q := (RX1, TX1, 21)) X hR hl.1 (c_X1_no l g v0 x1) (lw_V q462 q464 qs3 q115 q465) rfl rfl mh_X1_no rfl (by decide) (by decide) rfl (cat4 (Nat.le_of_ble_eq_true rfl)) dX1_rests_16 hw) (fun x4 h H locs cells slots hR hw => ?_)
    refine lv_goto (tgt := 27) hx hb dX1_rests_19 (by decide) ?_
    exact r_iret X hR dX1_rests_27 hw
theorem c_X1_rest (l : Launch) (g : GT) (v0 : Option Nat) (v1 : Int32) : CT qI l yX1_rest (ws_ yX1_rest cX1_rest 3 (Option.some Jvm.ClassFile.FieldType.int)) 4 g [va_rf v0, .int v1] (fun K E h => w_X1_rest g v0 v1 K E h) := by
  refine CT_of (lv := [(0, va_rf v0), (1, .int v1)]) (by decide +kernel) (by simp [lg_sl, cat_rf, cat_int, cat_long]) (by simp [lv_args, cat_rf, cat_int, cat_long]) (fun h0 K E p e s m args below meth c H locs cells slots ls X hxt hmn hw hR hl => ?_)
  have hx := X.hx
  have hb := X.hb
  unfold w_X1_rest at hw
  refine r_aload_n X dX1_rest_0 rfl (lv_at hl 0 rfl) ?_
  refine r_callV X hR (c_V (ci := 1) (q := (RX1, TX1, 21)) X hR hl.1 (c_X1_anew l g v0) (lw_V q455 q457 qs2 q115 q458) rfl rfl mh_X1_anew rfl (by decide) (by decide) rfl (cat4 (Nat.le_of_ble_eq_true rfl)) dX1_rest_1 hw) (fun _ h H locs cells slots hR hw => ?_)
  refine r_aload_n X dX1_rest_4 rfl (lv_at hl 0 rfl) ?_
  refine lv_iload_n hx hb dX1_rest_5 rfl (lv_at hl 1 rfl) ?_
  refine r_callI X hR (c_V (ci := 1) (q := (RX1, TX1, 21)) X hR hl.1 (c_X1_landsWhy l g v0 v1) (lw_V q1419 q1421 qs42 q115 q1422) rfl rfl mh_X1_landsWhy rfl (by decide) (by decide) rfl (cat4 (Nat.le_of_ble_eq_true rfl)) dX1_rest_6 hw) (fun x1 h H locs cells slots hR hw => ?_)
  refine lv_istore_n (i := 2) (lv' := [(2, .int x1), (0, va_rf v0), (1, .int v1)]) hx hb dX1_rest_9 rfl hl (by decide) rfl (fun ls hl => ?_)
  refine lv_iload_n hx hb dX1_rest_10 rfl (lv_at hl 0 rfl) ?_
  refine lv_if_eq (tgt := 20) hx hb dX1_rest_11 (by decide) (fun c2 => ?_) (fun c2 => ?_)
  · have hw := hw.1 c2
    refine r_aload_n X dX1_rest_20 rfl (lv_at hl 1 rfl) ?_
    refine lv_iload_n hx hb dX1_rest_21 rfl (lv_at hl 2 rfl) ?_
    refine r_callI X hR (c_V (ci := 1) (q := (RX1, TX1, 21)) X hR hl.1 (c_X1_seekRests l g v0 v1) (lw_V q1423 q1425 qs43 q115 q1426) rfl rfl mh_X1_seekRests rfl (by decide) (by decide) rfl (cat4 (Nat.le_of_ble_eq_true rfl)) dX1_rest_22 hw) (fun x3 h H locs cells slots hR hw => ?_)
    refine lv_pop hx hb dX1_rest_25 rfl ?_
    refine r_aload_n X dX1_rest_26 rfl (lv_at hl 1 rfl) ?_
    refine r_gI X hR fk_X1_271 dX1_rest_27 hw (fun x4 hw => ?_)
    exact r_iret X hR dX1_rest_30 hw
  · have hw := hw.2 c2
    refine r_aload_n X dX1_rest_14 rfl (lv_at hl 1 rfl) ?_
    refine lv_iload_n hx hb dX1_rest_15 rfl (lv_at hl 0 rfl) ?_
    refine r_callI X hR (c_V (ci := 1) (q := (RX1, TX1, 21)) X hR hl.1 (c_X1_no l g v0 x1) (lw_V q462 q464 qs3 q115 q465) rfl rfl mh_X1_no rfl (by decide) (by decide) rfl (cat4 (Nat.le_of_ble_eq_true rfl)) dX1_rest_16 hw) (fun x5 h H locs cells slots hR hw => ?_)
    exact r_iret X hR dX1_rest_19 hw
theorem c_X1_landsIf (l : Launch) (g : GT) (v0 : Option Nat) (v1 : Int32) (v2 : Int32) : CT qI l yX1_landsIf (ws_ yX1_landsIf cX1_landsIf 3 (Option.some Jvm.ClassFile.FieldType.int)) 4 g [va_rf v0, .int v1, .int v2] (fun K E h => w_X1_landsIf g v0 v1 v2 K E h) := by
  refine CT_of (lv := [(0, va_rf v0), (1, .int v1), (2, .int v2)]) (by decide +kernel) (by simp [lg_sl, cat_rf, cat_int, cat_long]) (by simp [lv_args, cat_rf, cat_int, cat_long]) (fun h0 K E p e s m args below meth c H locs cells slots ls X hxt hmn hw hR hl => ?_)
  have hx := X.hx
  have hb := X.hb
  unfold w_X1_landsIf at hw
  refine r_aload_n X dX1_landsIf_0 rfl (lv_at hl 0 rfl) ?_
  refine r_gR X hR fk_X1_40 dX1_landsIf_1 hw (fun x1 hw => ?_)
  refine r_aload_n X dX1_landsIf_4 rfl (lv_at hl 0 rfl) ?_
  refine r_gR X hR fk_X1_33 dX1_landsIf_5 hw (fun x2 hw => ?_)
  refine r_callV X hR (c_V (ci := 4) (q := (RX4, TX4, 4)) X hR hl.1 (c_X4_become l g x1 x2) (lw_V q1287 q1288 q1289 q121 q1290) rfl rfl mh_X4_become rfl (by decide) (by decide) rfl (cat4 (Nat.le_of_ble_eq_true rfl)) dX1_landsIf_8 hw) (fun _ h H locs cells slots hR hw => ?_)
  refine r_aload_n X dX1_landsIf_11 rfl (lv_at hl 0 rfl) ?_
  refine r_gR X hR fk_X1_40 dX1_landsIf_12 hw (fun x3 hw => ?_)
  refine r_gR X hR fk_X1_154 dX1_landsIf_15 hw (fun x4 hw => ?_)
  refine lv_iload_n hx hb dX1_landsIf_18 rfl (lv_at hl 2 rfl) ?_
  refine lv_iload_n hx hb dX1_landsIf_19 rfl (lv_at hl 1 rfl) ?_
  refine r_iast X hR dX1_landsIf_20 hw (fun H locs h hR hw => ?_)
  refine r_aload_n X dX1_landsIf_21 rfl (lv_at hl 0 rfl) ?_
  refine r_gR X hR fk_X1_40 dX1_landsIf_22 hw (fun x5 hw => ?_)
  refine lv_iconst (v := 1) hx hb dX1_landsIf_25 (by decide) ?_
  refine r_callV X hR (c_V (ci := 4) (q := (RX4, TX4, 4)) X hR hl.1 (c_X4_ends l g x5 1) (lw_V q1292 q1075 q1076 q121 q1077) rfl rfl mh_X4_ends rfl (by decide) (by decide) rfl (cat4 (Nat.le_of_ble_eq_true rfl)) dX1_landsIf_26 hw) (fun _ h H locs cells slots hR hw => ?_)
  refine r_aload_n X dX1_landsIf_29 rfl (lv_at hl 0 rfl) ?_
  refine r_gR X hR fk_X1_40 dX1_landsIf_30 hw (fun x6 hw => ?_)
  refine lv_iload_n hx hb dX1_landsIf_33 rfl (lv_at hl 1 rfl) ?_
  refine r_callI X hR (c_V (ci := 4) (q := (RX4, TX4, 4)) X hR hl.1 (c_X4_lands l g x6 v1) (lw_V q1182 q1183 q1184 q121 q1185) rfl rfl mh_X4_lands rfl (by decide) (by decide) rfl (cat4 (Nat.le_of_ble_eq_true rfl)) dX1_landsIf_34 hw) (fun x7 h H locs cells slots hR hw => ?_)
  exact r_iret X hR dX1_landsIf_37 hw
theorem t_X1_mostOf_J32 {p : Program} {l : Launch} {e : Env} {s : State} {m : MethodId} {args : Array Value} {below : List Frame} {meth : Method} {c : Code} {g : GT} {h0 : AH} {v0 : Option Nat} {v1 : Int32} {v2 : Int32} {v3 : Int32} {K : Int32 → AH → Prop} {E : Nat → AH → Prop} {L4 : Int32 → Int32 → AH → Prop} {h : AH} {H : Heap} {locs : List Loc} {cells slots : Nat} {ls : Array Slot} (X : Cx g h0 p s m args meth c RX1 cX1_mostOf 4 (Option.some Jvm.ClassFile.FieldType.int)) (k4 : ∀ {v2' : Int32} {v3' : Int32} {h : AH} {H : Heap} {locs : List Loc} {cells slots : Nat} {ls : Array Slot}, L4 v2' v3' h → HS g s h H locs → lv_has ls 4 [(0, va_rf v0), (1, .int v1), (2, .int (v2')), (3, .int (v3'))] → W p l e (RM 5 h0) s m args below meth c H locs cells slots (MQT below g (qI K) E args s h0) (F0 m 4 ls [])) (hw : w_X1_mostOf_J32 g v0 v1 v2 v3 K E L4 h) (hR : HS g s h H locs) (hl : lv_has ls 4 [(0, va_rf v0), (1, .int v1), (2, .int v2), (3, .int v3)]) : W p l e (RM 5 h0) s m args below meth c H locs cells slots (MQT below g (qI K) E args s h0) (F0 m 32 ls []) := by
  have hx := X.hx
  have hb := X.hb
  unfold w_X1_mostOf_J32 at hw
  refine r_iinc X (k := 3) (v := (v3 + 1)) (lv' := fun x7 => [(3, .int x7), (0, va_rf v0), (1, .int v1), (2, .int v2)]) dX1_mostOf_32 hl rfl rfl (by decide) hw (fun _ => rfl) (fun x7 hw ls hl => ?_)
  refine lv_goto (tgt := 4) hx hb dX1_mostOf_35 (by decide) ?_
  exact k4 hw hR (lv_sub hl [1, 2, 3, 0] rfl)
theorem t_X1_mostOf_L4 {p : Program} {l : Launch} {e : Env} {s : State} {m : MethodId} {args : Array Value} {below : List Frame} {meth : Method} {c : Code} {g : GT} {h0 : AH} {v0 : Option Nat} {v1 : Int32} {K : Int32 → AH → Prop} {E : Nat → AH → Prop} (X : Cx g h0 p s m args meth c RX1 cX1_mostOf 4 (Option.some Jvm.ClassFile.FieldType.int))  : ∀ (n : Nat) {v2 : Int32} {v3 : Int32} {h : AH} {H : Heap} {locs : List Loc} {cells slots : Nat} {ls : Array Slot}, LpN2 (w_X1_mostOf_L4 g v0 v1 K E) n v2 v3 h → HS g s h H locs → lv_has ls 4 [(0, va_rf v0), (1, .int v1), (2, .int v2), (3, .int v3)] → W p l e (RM 5 h0) s m args below meth c H locs cells slots (MQT below g (qI K) E args s h0) (F0 m 4 ls []) := by
  have hx := X.hx
  have hb := X.hb
  intro n
  induction n with
  | zero =>
    intro v2 v3 h H locs cells slots ls hw
    exact hw.elim
  | succ n k4 =>
    intro v2 v3 h H locs cells slots ls hw hR hl
    have hw : w_X1_mostOf_L4 g v0 v1 K E (LpN2 (w_X1_mostOf_L4 g v0 v1 K E) n) v2 v3 h := hw
    unfold w_X1_mostOf_L4 at hw
    refine lv_iload_n hx hb dX1_mostOf_4 rfl (lv_at hl 3 rfl) ?_
    refine r_aload_n X dX1_mostOf_5 rfl (lv_at hl 0 rfl) ?_
    refine r_gR X hR fk_X1_102 dX1_mostOf_6 hw (fun x1 hw => ?_)
    refine r_gI X hR fk_X1_126 dX1_mostOf_9 hw (fun x2 hw => ?_)
    refine lv_icmp_ge (tgt := 38) hx hb dX1_mostOf_12 (by decide) (fun c3 => ?_) (fun c3 => ?_)
    · have hw := hw.1 c3
      refine lv_iload_n hx hb dX1_mostOf_38 rfl (lv_at hl 2 rfl) ?_
      exact r_iret X hR dX1_mostOf_39 hw
    · have hw := hw.2 c3
      refine r_aload_n X dX1_mostOf_15 rfl (lv_at hl 0 rfl) ?_
      refine lv_iload_n hx hb dX1_mostOf_16 rfl (lv_at hl 1 rfl) ?_
      refine lv_iload_n hx hb dX1_mostOf_17 rfl (lv_at hl 3 rfl) ?_
      refine r_callI X hR (c_V (ci := 1) (q := (RX1, TX1, 21)) X hR hl.1 (c_X1_landsIf l g v0 v1 v3) (lw_V q1442 q1444 qs45 q115 q1445) rfl rfl mh_X1_landsIf rfl (by decide) (by decide) rfl (cat4 (Nat.le_of_ble_eq_true rfl)) dX1_mostOf_18 hw) (fun x4 h H locs cells slots hR hw => ?_)
      refine r_aload_n X dX1_mostOf_21 rfl (lv_at hl 0 rfl) ?_
      refine lv_iload_n hx hb dX1_mostOf_22 rfl (lv_at hl 1 rfl) ?_
      refine lv_iload_n hx hb dX1_mostOf_23 rfl (lv_at hl 2 rfl) ?_
      refine r_callI X hR (c_V (ci := 1) (q := (RX1, TX1, 21)) X hR hl.1 (c_X1_landsIf l g v0 v1 v2) (lw_V q1442 q1444 qs45 q115 q1445) rfl rfl mh_X1_landsIf rfl (by decide) (by decide) rfl (cat4 (Nat.le_of_ble_eq_true rfl)) dX1_mostOf_24 hw) (fun x5 h H locs cells slots hR hw => ?_)
      refine lv_icmp_le (tgt := 32) hx hb dX1_mostOf_27 (by decide) (fun c6 => ?_) (fun c6 => ?_)
      · have hw := hw.1 c6
        exact t_X1_mostOf_J32 X k4 hw hR (lv_sub hl [0, 1, 2, 3] rfl)
      · have hw := hw.2 c6
        refine lv_iload_n hx hb dX1_mostOf_30 rfl (lv_at hl 3 rfl) ?_
        refine lv_istore_n (i := 2) (lv' := [(2, .int v3), (0, va_rf v0), (1, .int v1), (3, .int v3)]) hx hb dX1_mostOf_31 rfl hl (by decide) rfl (fun ls hl => ?_)
        exact t_X1_mostOf_J32 X k4 hw hR (lv_sub hl [1, 2, 0, 3] rfl)
theorem c_X1_mostOf (l : Launch) (g : GT) (v0 : Option Nat) (v1 : Int32) : CT qI l yX1_mostOf (ws_ yX1_mostOf cX1_mostOf 4 (Option.some Jvm.ClassFile.FieldType.int)) 5 g [va_rf v0, .int v1] (fun K E h => w_X1_mostOf g v0 v1 K E h) := by
  refine CT_of (lv := [(0, va_rf v0), (1, .int v1)]) (by decide +kernel) (by simp [lg_sl, cat_rf, cat_int, cat_long]) (by simp [lv_args, cat_rf, cat_int, cat_long]) (fun h0 K E p e s m args below meth c H locs cells slots ls X hxt hmn hw hR hl => ?_)
  have hx := X.hx
  have hb := X.hb
  unfold w_X1_mostOf at hw
  refine lv_iconst (v := 0) hx hb dX1_mostOf_0 (by decide) ?_
  refine lv_istore_n (i := 2) (lv' := [(2, .int 0), (0, va_rf v0), (1, .int v1)]) hx hb dX1_mostOf_1 rfl hl (by decide) rfl (fun ls hl => ?_)
  refine lv_iconst (v := 1) hx hb dX1_mostOf_2 (by decide) ?_
  refine lv_istore_n (i := 3) (lv' := [(3, .int 1), (2, .int 0), (0, va_rf v0), (1, .int v1)]) hx hb dX1_mostOf_3 rfl hl (by decide) rfl (fun ls hl => ?_)
  obtain ⟨n, hw⟩ := hw
  exact t_X1_mostOf_L4 X  n hw hR (lv_sub hl [2, 3, 1, 0] rfl)
theorem c_X1_most (l : Launch) (g : GT) (v0 : Option Nat) (v1 : Int32) : CT qI l yX1_most (ws_ yX1_most cX1_most 2 (Option.some Jvm.ClassFile.FieldType.int)) 6 g [va_rf v0, .int v1] (fun K E h => w_X1_most g v0 v1 K E h) := by
  refine CT_of (lv := [(0, va_rf v0), (1, .int v1)]) (by decide +kernel) (by simp [lg_sl, cat_rf, cat_int, cat_long]) (by simp [lv_args, cat_rf, cat_int, cat_long]) (fun h0 K E p e s m args below meth c H locs cells slots ls X hxt hmn hw hR hl => ?_)
  have hx := X.hx
  have hb := X.hb
  unfold w_X1_most at hw
  refine r_aload_n X dX1_most_0 rfl (lv_at hl 0 rfl) ?_
  refine r_callV X hR (c_V (ci := 1) (q := (RX1, TX1, 21)) X hR hl.1 (c_X1_anew l g v0) (lw_V q455 q457 qs2 q115 q458) rfl rfl mh_X1_anew rfl (by decide) (by decide) rfl (cat4 (Nat.le_of_ble_eq_true rfl)) dX1_most_1 hw) (fun _ h H locs cells slots hR hw => ?_)
  refine r_aload_n X dX1_most_4 rfl (lv_at hl 0 rfl) ?_
  refine lv_iload_n hx hb dX1_most_5 rfl (lv_at hl 1 rfl) ?_
  refine r_callI X hR (c_V (ci := 1) (q := (RX1, TX1, 21)) X hR hl.1 (c_X1_isPerson l g v0 v1) (lw_V q1165 q1167 qs33 q115 q1168) rfl rfl mh_X1_isPerson rfl (by decide) (by decide) rfl (cat4 (Nat.le_of_ble_eq_true rfl)) dX1_most_6 hw) (fun x1 h H locs cells slots hR hw => ?_)
  refine lv_if_eq (tgt := 20) hx hb dX1_most_9 (by decide) (fun c2 => ?_) (fun c2 => ?_)
  · have hw := hw.1 c2
    refine r_aload_n X dX1_most_20 rfl (lv_at hl 0 rfl) ?_
    refine lv_iconst (v := 1) hx hb dX1_most_21 (by decide) ?_
    refine r_callI X hR (c_V (ci := 1) (q := (RX1, TX1, 21)) X hR hl.1 (c_X1_no l g v0 1) (lw_V q462 q464 qs3 q115 q465) rfl rfl mh_X1_no rfl (by decide) (by decide) rfl (cat4 (Nat.le_of_ble_eq_true rfl)) dX1_most_22 hw) (fun x3 h H locs cells slots hR hw => ?_)
    exact r_iret X hR dX1_most_25 hw
  · have hw := hw.2 c2
    refine r_aload_n X dX1_most_12 rfl (lv_at hl 0 rfl) ?_
    refine lv_iload_n hx hb dX1_most_13 rfl (lv_at hl 1 rfl) ?_
    refine r_callI X hR (c_V (ci := 1) (q := (RX1, TX1, 21)) X hR hl.1 (c_X1_mostOf l g v0 v1) (lw_V q1438 q1440 qs44 q115 q1441) rfl rfl mh_X1_mostOf rfl (by decide) (by decide) rfl (cat4 (Nat.le_of_ble_eq_true rfl)) dX1_most_14 hw) (fun x4 h H locs cells slots hR hw => ?_)
    refine lv_goto (tgt := 25) hx hb dX1_most_17 (by decide) ?_
    exact r_iret X hR dX1_most_25 hw
theorem c_X1_mostLands (l : Launch) (g : GT) (v0 : Option Nat) (v1 : Int32) : CT qI l yX1_mostLands (ws_ yX1_mostLands cX1_mostLands 2 (Option.some Jvm.ClassFile.FieldType.int)) 6 g [va_rf v0, .int v1] (fun K E h => w_X1_mostLands g v0 v1 K E h) := by
  refine CT_of (lv := [(0, va_rf v0), (1, .int v1)]) (by decide +kernel) (by simp [lg_sl, cat_rf, cat_int, cat_long]) (by simp [lv_args, cat_rf, cat_int, cat_long]) (fun h0 K E p e s m args below meth c H locs cells slots ls X hxt hmn hw hR hl => ?_)
  have hx := X.hx
  have hb := X.hb
  unfold w_X1_mostLands at hw
  refine r_aload_n X dX1_mostLands_0 rfl (lv_at hl 0 rfl) ?_
  refine r_callV X hR (c_V (ci := 1) (q := (RX1, TX1, 21)) X hR hl.1 (c_X1_anew l g v0) (lw_V q455 q457 qs2 q115 q458) rfl rfl mh_X1_anew rfl (by decide) (by decide) rfl (cat4 (Nat.le_of_ble_eq_true rfl)) dX1_mostLands_1 hw) (fun _ h H locs cells slots hR hw => ?_)
  refine r_aload_n X dX1_mostLands_4 rfl (lv_at hl 0 rfl) ?_
  refine lv_iload_n hx hb dX1_mostLands_5 rfl (lv_at hl 1 rfl) ?_
  refine r_callI X hR (c_V (ci := 1) (q := (RX1, TX1, 21)) X hR hl.1 (c_X1_isPerson l g v0 v1) (lw_V q1165 q1167 qs33 q115 q1168) rfl rfl mh_X1_isPerson rfl (by decide) (by decide) rfl (cat4 (Nat.le_of_ble_eq_true rfl)) dX1_mostLands_6 hw) (fun x1 h H locs cells slots hR hw => ?_)
  refine lv_if_eq (tgt := 25) hx hb dX1_mostLands_9 (by decide) (fun c2 => ?_) (fun c2 => ?_)
  · have hw := hw.1 c2
    refine r_aload_n X dX1_mostLands_25 rfl (lv_at hl 0 rfl) ?_
    refine lv_iconst (v := 1) hx hb dX1_mostLands_26 (by decide) ?_
    refine r_callI X hR (c_V (ci := 1) (q := (RX1, TX1, 21)) X hR hl.1 (c_X1_no l g v0 1) (lw_V q462 q464 qs3 q115 q465) rfl rfl mh_X1_no rfl (by decide) (by decide) rfl (cat4 (Nat.le_of_ble_eq_true rfl)) dX1_mostLands_27 hw) (fun x3 h H locs cells slots hR hw => ?_)
    exact r_iret X hR dX1_mostLands_30 hw
  · have hw := hw.2 c2
    refine r_aload_n X dX1_mostLands_12 rfl (lv_at hl 0 rfl) ?_
    refine lv_iload_n hx hb dX1_mostLands_13 rfl (lv_at hl 1 rfl) ?_
    refine r_aload_n X dX1_mostLands_14 rfl (lv_at hl 0 rfl) ?_
    refine lv_iload_n hx hb dX1_mostLands_15 rfl (lv_at hl 1 rfl) ?_
    refine r_callI X hR (c_V (ci := 1) (q := (RX1, TX1, 21)) X hR hl.1 (c_X1_mostOf l g v0 v1) (lw_V q1438 q1440 qs44 q115 q1441) rfl rfl mh_X1_mostOf rfl (by decide) (by decide) rfl (cat4 (Nat.le_of_ble_eq_true rfl)) dX1_mostLands_16 hw) (fun x4 h H locs cells slots hR hw => ?_)
    refine r_callI X hR (c_V (ci := 1) (q := (RX1, TX1, 21)) X hR hl.1 (c_X1_landsIf l g v0 v1 x4) (lw_V q1442 q1444 qs45 q115 q1445) rfl rfl mh_X1_landsIf rfl (by decide) (by decide) rfl (cat4 (Nat.le_of_ble_eq_true rfl)) dX1_mostLands_19 hw) (fun x5 h H locs cells slots hR hw => ?_)
    refine lv_goto (tgt := 30) hx hb dX1_mostLands_22 (by decide) ?_
    exact r_iret X hR dX1_mostLands_30 hw
theorem t_X1_centuryWhy_J150 {p : Program} {l : Launch} {e : Env} {s : State} {m : MethodId} {args : Array Value} {below : List Frame} {meth : Method} {c : Code} {g : GT} {h0 : AH} {v0 : Option Nat} {v3 : Int32} {v4 : Int32} {v5 : Int32} {s0 : Int32} {s1 : Option Nat} {K : Int32 → AH → Prop} {E : Nat → AH → Prop} {L46 : Int32 → Int32 → AH → Prop} {h : AH} {H : Heap} {locs : List Loc} {cells slots : Nat} {ls : Array Slot} (X : Cx g h0 p s m args meth c RX1 cX1_centuryWhy 7 (Option.some Jvm.ClassFile.FieldType.int)) (k46 : ∀ {v4' : Int32} {v5' : Int32} {h : AH} {H : Heap} {locs : List Loc} {cells slots : Nat} {ls : Array Slot}, L46 v4' v5' h → HS g s h H locs → lv_has ls 7 [(0, va_rf v0), (3, .int v3), (4, .int (v4')), (5, .int (v5'))] → W p l e (RM 4 h0) s m args below meth c H locs cells slots (MQT below g (qI K) E args s h0) (F0 m 46 ls [])) (hw : w_X1_centuryWhy_J150 g v0 v3 v4 v5 s0 s1 K E L46 h) (hR : HS g s h H locs) (hl : lv_has ls 7 [(0, va_rf v0), (3, .int v3), (4, .int v4), (5, .int v5)]) : W p l e (RM 4 h0) s m args below meth c H locs cells slots (MQT below g (qI K) E args s h0) (F0 m 150 ls [.int s0, va_rf s1]) := by
  have hx := X.hx
  have hb := X.hb
  unfold w_X1_centuryWhy_J150 at hw
  refine r_callV X hR (c_V (ci := 4) (q := (RX4, TX4, 4)) X hR hl.1 (c_X4_ends l g s1 s0) (lw_V q1292 q1075 q1076 q121 q1077) rfl rfl mh_X4_ends rfl (by decide) (by decide) rfl (cat4 (Nat.le_of_ble_eq_true rfl)) dX1_centuryWhy_150 hw) (fun _ h H locs cells slots hR hw => ?_)
  refine r_iinc X (k := 3) (v := (v5 + 1)) (lv' := fun x25 => [(5, .int x25), (0, va_rf v0), (3, .int v3), (4, .int v4)]) dX1_centuryWhy_153 hl rfl rfl (by decide) hw (fun _ => rfl) (fun x25 hw ls hl => ?_)
  refine lv_goto (tgt := 46) hx hb dX1_centuryWhy_156 (by decide) ?_
  exact k46 hw hR (lv_sub hl [1, 2, 3, 0] rfl)
theorem t_X1_centuryWhy_L46 {p : Program} {l : Launch} {e : Env} {s : State} {m : MethodId} {args : Array Value} {below : List Frame} {meth : Method} {c : Code} {g : GT} {h0 : AH} {v0 : Option Nat} {v3 : Int32} {K : Int32 → AH → Prop} {E : Nat → AH → Prop} (X : Cx g h0 p s m args meth c RX1 cX1_centuryWhy 7 (Option.some Jvm.ClassFile.FieldType.int))  : ∀ (n : Nat) {v4 : Int32} {v5 : Int32} {h : AH} {H : Heap} {locs : List Loc} {cells slots : Nat} {ls : Array Slot}, LpN2 (w_X1_centuryWhy_L46 g v0 v3 K E) n v4 v5 h → HS g s h H locs → lv_has ls 7 [(0, va_rf v0), (3, .int v3), (4, .int v4), (5, .int v5)] → W p l e (RM 4 h0) s m args below meth c H locs cells slots (MQT below g (qI K) E args s h0) (F0 m 46 ls []) := by
  have hx := X.hx
  have hb := X.hb
  intro n
  induction n with
  | zero =>
    intro v4 v5 h H locs cells slots ls hw
    exact hw.elim
  | succ n k46 =>
    intro v4 v5 h H locs cells slots ls hw hR hl
    have hw : w_X1_centuryWhy_L46 g v0 v3 K E (LpN2 (w_X1_centuryWhy_L46 g v0 v3 K E) n) v4 v5 h := hw
    unfold w_X1_centuryWhy_L46 at hw
    refine lv_iload hx hb dX1_centuryWhy_46 (lv_at hl 3 rfl) ?_
    refine lv_iload_n hx hb dX1_centuryWhy_48 rfl (lv_at hl 1 rfl) ?_
    refine lv_icmp_ge (tgt := 159) hx hb dX1_centuryWhy_49 (by decide) (fun c8 => ?_) (fun c8 => ?_)
    · have hw := hw.1 c8
      refine lv_iconst (v := 0) hx hb dX1_centuryWhy_159 (by decide) ?_
      exact r_iret X hR dX1_centuryWhy_160 hw
    · have hw := hw.2 c8
      refine lv_bipush (v := 75) hx hb dX1_centuryWhy_52 (by decide) ?_
      refine lv_iload hx hb dX1_centuryWhy_54 (lv_at hl 2 rfl) ?_
      refine lv_imul hx hb dX1_centuryWhy_56 ?_
      refine lv_bipush (v := 74) hx hb dX1_centuryWhy_57 (by decide) ?_
      refine lv_iadd hx hb dX1_centuryWhy_59 ?_
      refine lv_ldcw hx hb X.hown (X.hts _ q1459) dX1_centuryWhy_60 ?_
      refine lv_irem hx hb dX1_centuryWhy_63 (by decide) ?_
      refine r_nmI hw (fun x9 hw => ?_)
      refine lv_istore (i := 4) (lv' := [(4, .int x9), (0, va_rf v0), (3, .int v3), (5, .int v5)]) hx hb dX1_centuryWhy_64 hl (by decide) rfl (fun ls hl => ?_)
      refine lv_iload hx hb dX1_centuryWhy_66 (lv_at hl 0 rfl) ?_
      refine r_aload_n X dX1_centuryWhy_68 rfl (lv_at hl 1 rfl) ?_
      refine r_gR X hR fk_X1_102 dX1_centuryWhy_69 hw (fun x10 hw => ?_)
      refine r_gI X hR fk_X1_126 dX1_centuryWhy_72 hw (fun x11 hw => ?_)
      obtain ⟨z12, hw⟩ := hw
      refine lv_irem hx hb dX1_centuryWhy_75 z12 ?_
      refine r_nmI hw (fun x13 hw => ?_)
      refine lv_istore (i := 6) (lv' := [(6, .int x13), (4, .int x9), (0, va_rf v0), (3, .int v3), (5, .int v5)]) hx hb dX1_centuryWhy_76 hl (by decide) rfl (fun ls hl => ?_)
      refine lv_bipush (v := 75) hx hb dX1_centuryWhy_78 (by decide) ?_
      refine lv_iload hx hb dX1_centuryWhy_80 (lv_at hl 1 rfl) ?_
      refine lv_imul hx hb dX1_centuryWhy_82 ?_
      refine lv_bipush (v := 74) hx hb dX1_centuryWhy_83 (by decide) ?_
      refine lv_iadd hx hb dX1_centuryWhy_85 ?_
      refine lv_ldcw hx hb X.hown (X.hts _ q1459) dX1_centuryWhy_86 ?_
      refine lv_irem hx hb dX1_centuryWhy_89 (by decide) ?_
      refine r_nmI hw (fun x14 hw => ?_)
      refine lv_istore (i := 4) (lv' := [(4, .int x14), (6, .int x13), (0, va_rf v0), (3, .int v3), (5, .int v5)]) hx hb dX1_centuryWhy_90 hl (by decide) rfl (fun ls hl => ?_)
      refine r_aload_n X dX1_centuryWhy_92 rfl (lv_at hl 2 rfl) ?_
      refine r_gR X hR fk_X1_40 dX1_centuryWhy_93 hw (fun x15 hw => ?_)
      refine r_gR X hR fk_X1_154 dX1_centuryWhy_96 hw (fun x16 hw => ?_)
      refine lv_iload hx hb dX1_centuryWhy_99 (lv_at hl 1 rfl) ?_
      refine lv_iload hx hb dX1_centuryWhy_101 (lv_at hl 0 rfl) ?_
      refine r_aload_n X dX1_centuryWhy_103 rfl (lv_at hl 2 rfl) ?_
      refine r_gR X hR fk_X1_102 dX1_centuryWhy_104 hw (fun x17 hw => ?_)
      refine r_gI X hR fk_X1_131 dX1_centuryWhy_107 hw (fun x18 hw => ?_)
      obtain ⟨z19, hw⟩ := hw
      refine lv_irem hx hb dX1_centuryWhy_110 z19 ?_
      refine r_iast X hR dX1_centuryWhy_111 hw (fun H locs h hR hw => ?_)
      refine lv_bipush (v := 75) hx hb dX1_centuryWhy_112 (by decide) ?_
      refine lv_iload hx hb dX1_centuryWhy_114 (lv_at hl 0 rfl) ?_
      refine lv_imul hx hb dX1_centuryWhy_116 ?_
      refine lv_bipush (v := 74) hx hb dX1_centuryWhy_117 (by decide) ?_
      refine lv_iadd hx hb dX1_centuryWhy_119 ?_
      refine lv_ldcw hx hb X.hown (X.hts _ q1459) dX1_centuryWhy_120 ?_
      refine lv_irem hx hb dX1_centuryWhy_123 (by decide) ?_
      refine r_nmI hw (fun x20 hw => ?_)
      refine lv_istore (i := 4) (lv' := [(4, .int x20), (6, .int x13), (0, va_rf v0), (3, .int v3), (5, .int v5)]) hx hb dX1_centuryWhy_124 hl (by decide) rfl (fun ls hl => ?_)
      refine r_aload_n X dX1_centuryWhy_126 rfl (lv_at hl 2 rfl) ?_
      refine r_gR X hR fk_X1_40 dX1_centuryWhy_127 hw (fun x21 hw => ?_)
      refine lv_iload hx hb dX1_centuryWhy_130 (lv_at hl 0 rfl) ?_
      refine lv_bipush (v := 100) hx hb dX1_centuryWhy_132 (by decide) ?_
      refine lv_irem hx hb dX1_centuryWhy_134 (by decide) ?_
      refine r_aload_n X dX1_centuryWhy_135 rfl (lv_at hl 2 rfl) ?_
      refine r_gR X hR fk_X1_102 dX1_centuryWhy_136 hw (fun x22 hw => ?_)
      refine r_gI X hR fk_X1_291 dX1_centuryWhy_139 hw (fun x23 hw => ?_)
      refine lv_icmp_ge (tgt := 149) hx hb dX1_centuryWhy_142 (by decide) (fun c24 => ?_) (fun c24 => ?_)
      · have hw := hw.1 c24
        refine lv_iconst (v := 0) hx hb dX1_centuryWhy_149 (by decide) ?_
        exact t_X1_centuryWhy_J150 X k46 hw hR (lv_sub hl [2, 3, 0, 4] rfl)
      · have hw := hw.2 c24
        refine lv_iconst (v := 1) hx hb dX1_centuryWhy_145 (by decide) ?_
        refine lv_goto (tgt := 150) hx hb dX1_centuryWhy_146 (by decide) ?_
        exact t_X1_centuryWhy_J150 X k46 hw hR (lv_sub hl [2, 3, 0, 4] rfl)
theorem c_X1_centuryWhy (l : Launch) (g : GT) (v0 : Option Nat) (v1 : Int32) (v2 : Int32) (v3 : Int32) : CT qI l yX1_centuryWhy (ws_ yX1_centuryWhy cX1_centuryWhy 7 (Option.some Jvm.ClassFile.FieldType.int)) 4 g [va_rf v0, .int v1, .int v2, .int v3] (fun K E h => w_X1_centuryWhy g v0 v1 v2 v3 K E h) := by
  refine CT_of (lv := [(0, va_rf v0), (1, .int v1), (2, .int v2), (3, .int v3)]) (by decide +kernel) (by simp [lg_sl, cat_rf, cat_int, cat_long]) (by simp [lv_args, cat_rf, cat_int, cat_long]) (fun h0 K E p e s m args below meth c H locs cells slots ls X hxt hmn hw hR hl => ?_)
  have hx := X.hx
  have hb := X.hb
  unfold w_X1_centuryWhy at hw
  refine lv_iload_n hx hb dX1_centuryWhy_0 rfl (lv_at hl 1 rfl) ?_
  refine lv_if_ne (tgt := 6) hx hb dX1_centuryWhy_1 (by decide) (fun c1 => ?_) (fun c1 => ?_)
  · have hw := hw.1 c1
    refine lv_iload_n hx hb dX1_centuryWhy_6 rfl (lv_at hl 2 rfl) ?_
    refine lv_iconst (v := 0) hx hb dX1_centuryWhy_7 (by decide) ?_
    refine lv_ldcw hx hb X.hown (X.hts _ q1458) dX1_centuryWhy_8 ?_
    refine r_callI X hR (c_S X hR hl.1 (c_X1_in l g v2 0 65536) (lw_S q459 q460 q115 q461) mh_X1_in rfl (by decide) (by decide) rfl (cat4 (Nat.le_of_ble_eq_true rfl)) dX1_centuryWhy_11 hw) (fun x2 h H locs cells slots hR hw => ?_)
    refine lv_if_eq (tgt := 27) hx hb dX1_centuryWhy_14 (by decide) (fun c3 => ?_) (fun c3 => ?_)
    · have hw := hw.1 c3
      refine lv_iconst (v := 2) hx hb dX1_centuryWhy_27 (by decide) ?_
      exact r_iret X hR dX1_centuryWhy_28 hw
    · have hw := hw.2 c3
      refine lv_iload_n hx hb dX1_centuryWhy_17 rfl (lv_at hl 3 rfl) ?_
      refine lv_iconst (v := 0) hx hb dX1_centuryWhy_18 (by decide) ?_
      refine lv_bipush (v := 60) hx hb dX1_centuryWhy_19 (by decide) ?_
      refine r_callI X hR (c_S X hR hl.1 (c_X1_in l g v3 0 60) (lw_S q459 q460 q115 q461) mh_X1_in rfl (by decide) (by decide) rfl (cat4 (Nat.le_of_ble_eq_true rfl)) dX1_centuryWhy_21 hw) (fun x4 h H locs cells slots hR hw => ?_)
      refine lv_if_ne (tgt := 29) hx hb dX1_centuryWhy_24 (by decide) (fun c5 => ?_) (fun c5 => ?_)
      · have hw := hw.1 c5
        refine r_aload_n X dX1_centuryWhy_29 rfl (lv_at hl 0 rfl) ?_
        refine r_gR X hR fk_X1_40 dX1_centuryWhy_30 hw (fun x6 hw => ?_)
        refine r_aload_n X dX1_centuryWhy_33 rfl (lv_at hl 0 rfl) ?_
        refine r_gR X hR fk_X1_33 dX1_centuryWhy_34 hw (fun x7 hw => ?_)
        refine r_callV X hR (c_V (ci := 4) (q := (RX4, TX4, 4)) X hR hl.1 (c_X4_become l g x6 x7) (lw_V q1287 q1288 q1289 q121 q1290) rfl rfl mh_X4_become rfl (by decide) (by decide) rfl (cat4 (Nat.le_of_ble_eq_true rfl)) dX1_centuryWhy_37 hw) (fun _ h H locs cells slots hR hw => ?_)
        refine lv_iload_n hx hb dX1_centuryWhy_40 rfl (lv_at hl 2 rfl) ?_
        refine lv_istore (i := 4) (lv' := [(4, .int v2), (0, va_rf v0), (1, .int v1), (2, .int v2), (3, .int v3)]) hx hb dX1_centuryWhy_41 hl (by decide) rfl (fun ls hl => ?_)
        refine lv_iconst (v := 0) hx hb dX1_centuryWhy_43 (by decide) ?_
        refine lv_istore (i := 5) (lv' := [(5, .int 0), (4, .int v2), (0, va_rf v0), (1, .int v1), (2, .int v2), (3, .int v3)]) hx hb dX1_centuryWhy_44 hl (by decide) rfl (fun ls hl => ?_)
        obtain ⟨n, hw⟩ := hw
        exact t_X1_centuryWhy_L46 X  n hw hR (lv_sub hl [2, 5, 1, 0] rfl)
      · have hw := hw.2 c5
        refine lv_iconst (v := 2) hx hb dX1_centuryWhy_27 (by decide) ?_
        exact r_iret X hR dX1_centuryWhy_28 hw
  · have hw := hw.2 c1
    refine lv_iconst (v := 1) hx hb dX1_centuryWhy_4 (by decide) ?_
    exact r_iret X hR dX1_centuryWhy_5 hw
theorem c_X1_century (l : Launch) (g : GT) (v0 : Option Nat) (v1 : Int32) (v2 : Int32) (v3 : Int32) : CT qI l yX1_century (ws_ yX1_century cX1_century 5 (Option.some Jvm.ClassFile.FieldType.int)) 5 g [va_rf v0, .int v1, .int v2, .int v3] (fun K E h => w_X1_century g v0 v1 v2 v3 K E h) := by
  refine CT_of (lv := [(0, va_rf v0), (1, .int v1), (2, .int v2), (3, .int v3)]) (by decide +kernel) (by simp [lg_sl, cat_rf, cat_int, cat_long]) (by simp [lv_args, cat_rf, cat_int, cat_long]) (fun h0 K E p e s m args below meth c H locs cells slots ls X hxt hmn hw hR hl => ?_)
  have hx := X.hx
  have hb := X.hb
  unfold w_X1_century at hw
  refine r_aload_n X dX1_century_0 rfl (lv_at hl 0 rfl) ?_
  refine r_callV X hR (c_V (ci := 1) (q := (RX1, TX1, 21)) X hR hl.1 (c_X1_anew l g v0) (lw_V q455 q457 qs2 q115 q458) rfl rfl mh_X1_anew rfl (by decide) (by decide) rfl (cat4 (Nat.le_of_ble_eq_true rfl)) dX1_century_1 hw) (fun _ h H locs cells slots hR hw => ?_)
  refine r_aload_n X dX1_century_4 rfl (lv_at hl 0 rfl) ?_
  refine r_aload_n X dX1_century_5 rfl (lv_at hl 0 rfl) ?_
  refine lv_iload_n hx hb dX1_century_6 rfl (lv_at hl 1 rfl) ?_
  refine r_callI X hR (c_V (ci := 1) (q := (RX1, TX1, 21)) X hR hl.1 (c_X1_isPerson l g v0 v1) (lw_V q1165 q1167 qs33 q115 q1168) rfl rfl mh_X1_isPerson rfl (by decide) (by decide) rfl (cat4 (Nat.le_of_ble_eq_true rfl)) dX1_century_7 hw) (fun x1 h H locs cells slots hR hw => ?_)
  refine lv_iload_n hx hb dX1_century_10 rfl (lv_at hl 2 rfl) ?_
  refine lv_iload_n hx hb dX1_century_11 rfl (lv_at hl 3 rfl) ?_
  refine r_callI X hR (c_V (ci := 1) (q := (RX1, TX1, 21)) X hR hl.1 (c_X1_centuryWhy l g v0 x1 v2 v3) (lw_V q1454 q1456 qs46 q115 q1457) rfl rfl mh_X1_centuryWhy rfl (by decide) (by decide) rfl (cat4 (Nat.le_of_ble_eq_true rfl)) dX1_century_12 hw) (fun x2 h H locs cells slots hR hw => ?_)
  refine lv_istore (i := 4) (lv' := [(4, .int x2), (0, va_rf v0), (1, .int v1), (2, .int v2), (3, .int v3)]) hx hb dX1_century_15 hl (by decide) rfl (fun ls hl => ?_)
  refine lv_iload hx hb dX1_century_17 (lv_at hl 0 rfl) ?_
  refine lv_if_eq (tgt := 31) hx hb dX1_century_19 (by decide) (fun c3 => ?_) (fun c3 => ?_)
  · have hw := hw.1 c3
    refine r_aload_n X dX1_century_31 rfl (lv_at hl 1 rfl) ?_
    refine r_gR X hR fk_X1_40 dX1_century_32 hw (fun x4 hw => ?_)
    refine lv_iload_n hx hb dX1_century_35 rfl (lv_at hl 2 rfl) ?_
    refine r_callI X hR (c_V (ci := 4) (q := (RX4, TX4, 4)) X hR hl.1 (c_X4_lands l g x4 v1) (lw_V q1182 q1183 q1184 q121 q1185) rfl rfl mh_X4_lands rfl (by decide) (by decide) rfl (cat4 (Nat.le_of_ble_eq_true rfl)) dX1_century_36 hw) (fun x5 h H locs cells slots hR hw => ?_)
    exact r_iret X hR dX1_century_39 hw
  · have hw := hw.2 c3
    refine r_aload_n X dX1_century_22 rfl (lv_at hl 1 rfl) ?_
    refine lv_iload hx hb dX1_century_23 (lv_at hl 0 rfl) ?_
    refine r_callI X hR (c_V (ci := 1) (q := (RX1, TX1, 21)) X hR hl.1 (c_X1_no l g v0 x2) (lw_V q462 q464 qs3 q115 q465) rfl rfl mh_X1_no rfl (by decide) (by decide) rfl (cat4 (Nat.le_of_ble_eq_true rfl)) dX1_century_25 hw) (fun x6 h H locs cells slots hR hw => ?_)
    refine lv_goto (tgt := 39) hx hb dX1_century_28 (by decide) ?_
    exact r_iret X hR dX1_century_39 hw
theorem t_X1_untitled_J73 {p : Program} {l : Launch} {e : Env} {s : State} {m : MethodId} {args : Array Value} {below : List Frame} {meth : Method} {c : Code} {g : GT} {h0 : AH} {v0 : Option Nat} {v5 : Int32} {s0 : Int32} {s1 : Int32} {K : Int32 → AH → Prop} {E : Nat → AH → Prop} {L39 : Int32 → Int32 → AH → Prop} {h : AH} {H : Heap} {locs : List Loc} {cells slots : Nat} {ls : Array Slot} (X : Cx g h0 p s m args meth c RX1 cX1_untitled 6 (Option.some Jvm.ClassFile.FieldType.int)) (k39 : ∀ {v4' : Int32} {v5' : Int32} {h : AH} {H : Heap} {locs : List Loc} {cells slots : Nat} {ls : Array Slot}, L39 v4' v5' h → HS g s h H locs → lv_has ls 6 [(0, va_rf v0), (4, .int (v4')), (5, .int (v5'))] → W p l e (RM 5 h0) s m args below meth c H locs cells slots (MQT below g (qI K) E args s h0) (F0 m 39 ls [])) (hw : w_X1_untitled_J73 g v0 v5 s0 s1 K E L39 h) (hR : HS g s h H locs) (hl : lv_has ls 6 [(0, va_rf v0), (5, .int v5)]) : W p l e (RM 5 h0) s m args below meth c H locs cells slots (MQT below g (qI K) E args s h0) (F0 m 73 ls [.int s0, .int s1]) := by
  have hx := X.hx
  have hb := X.hb
  unfold w_X1_untitled_J73 at hw
  refine lv_iadd hx hb dX1_untitled_73 ?_
  refine r_nmI hw (fun x12 hw => ?_)
  refine lv_istore (i := 4) (lv' := [(4, .int x12), (0, va_rf v0), (5, .int v5)]) hx hb dX1_untitled_74 hl (by decide) rfl (fun ls hl => ?_)
  refine r_iinc X (k := 2) (v := (v5 + 1)) (lv' := fun x13 => [(5, .int x13), (4, .int x12), (0, va_rf v0)]) dX1_untitled_76 hl rfl rfl (by decide) hw (fun _ => rfl) (fun x13 hw ls hl => ?_)
  refine lv_goto (tgt := 39) hx hb dX1_untitled_79 (by decide) ?_
  exact k39 hw hR (lv_sub hl [2, 1, 0] rfl)
theorem t_X1_untitled_L39 {p : Program} {l : Launch} {e : Env} {s : State} {m : MethodId} {args : Array Value} {below : List Frame} {meth : Method} {c : Code} {g : GT} {h0 : AH} {v0 : Option Nat} {K : Int32 → AH → Prop} {E : Nat → AH → Prop} (X : Cx g h0 p s m args meth c RX1 cX1_untitled 6 (Option.some Jvm.ClassFile.FieldType.int))  : ∀ (n : Nat) {v4 : Int32} {v5 : Int32} {h : AH} {H : Heap} {locs : List Loc} {cells slots : Nat} {ls : Array Slot}, LpN2 (w_X1_untitled_L39 g v0 K E) n v4 v5 h → HS g s h H locs → lv_has ls 6 [(0, va_rf v0), (4, .int v4), (5, .int v5)] → W p l e (RM 5 h0) s m args below meth c H locs cells slots (MQT below g (qI K) E args s h0) (F0 m 39 ls []) := by
  have hx := X.hx
  have hb := X.hb
  intro n
  induction n with
  | zero =>
    intro v4 v5 h H locs cells slots ls hw
    exact hw.elim
  | succ n k39 =>
    intro v4 v5 h H locs cells slots ls hw hR hl
    have hw : w_X1_untitled_L39 g v0 K E (LpN2 (w_X1_untitled_L39 g v0 K E) n) v4 v5 h := hw
    unfold w_X1_untitled_L39 at hw
    refine lv_iload hx hb dX1_untitled_39 (lv_at hl 2 rfl) ?_
    refine r_aload_n X dX1_untitled_41 rfl (lv_at hl 0 rfl) ?_
    refine r_gR X hR fk_X1_102 dX1_untitled_42 hw (fun x5 hw => ?_)
    refine r_gI X hR fk_X1_126 dX1_untitled_45 hw (fun x6 hw => ?_)
    refine lv_icmp_ge (tgt := 82) hx hb dX1_untitled_48 (by decide) (fun c7 => ?_) (fun c7 => ?_)
    · have hw := hw.1 c7
      refine lv_iload hx hb dX1_untitled_82 (lv_at hl 1 rfl) ?_
      exact r_iret X hR dX1_untitled_84 hw
    · have hw := hw.2 c7
      refine lv_iload hx hb dX1_untitled_51 (lv_at hl 1 rfl) ?_
      refine r_aload_n X dX1_untitled_53 rfl (lv_at hl 0 rfl) ?_
      refine r_gR X hR fk_X1_40 dX1_untitled_54 hw (fun x8 hw => ?_)
      refine r_gR X hR fk_X1_158 dX1_untitled_57 hw (fun x9 hw => ?_)
      refine lv_iload hx hb dX1_untitled_60 (lv_at hl 2 rfl) ?_
      refine r_iald X hR dX1_untitled_62 hw (fun x10 hw => ?_)
      refine lv_bipush (v := (-2)) hx hb dX1_untitled_63 (by decide) ?_
      refine lv_icmp_ne (tgt := 72) hx hb dX1_untitled_65 (by decide) (fun c11 => ?_) (fun c11 => ?_)
      · have hw := hw.1 c11
        refine lv_iconst (v := 0) hx hb dX1_untitled_72 (by decide) ?_
        exact t_X1_untitled_J73 X k39 hw hR (lv_sub hl [0, 2] rfl)
      · have hw := hw.2 c11
        refine lv_iconst (v := 1) hx hb dX1_untitled_68 (by decide) ?_
        refine lv_goto (tgt := 73) hx hb dX1_untitled_69 (by decide) ?_
        exact t_X1_untitled_J73 X k39 hw hR (lv_sub hl [0, 2] rfl)
theorem t_X1_untitled_J17 {p : Program} {l : Launch} {e : Env} {s : State} {m : MethodId} {args : Array Value} {below : List Frame} {meth : Method} {c : Code} {g : GT} {h0 : AH} {v0 : Option Nat} {v1 : Int32} {v2 : Int32} {s0 : Int32} {s1 : Option Nat} {K : Int32 → AH → Prop} {E : Nat → AH → Prop} {h : AH} {H : Heap} {locs : List Loc} {cells slots : Nat} {ls : Array Slot} (X : Cx g h0 p s m args meth c RX1 cX1_untitled 6 (Option.some Jvm.ClassFile.FieldType.int))  (hw : w_X1_untitled_J17 g v0 v1 v2 s0 s1 K E h) (hR : HS g s h H locs) (hl : lv_has ls 6 [(0, va_rf v0), (1, .int v1), (2, .int v2)]) : W p l e (RM 5 h0) s m args below meth c H locs cells slots (MQT below g (qI K) E args s h0) (F0 m 17 ls [.int s0, va_rf s1]) := by
  have hx := X.hx
  have hb := X.hb
  unfold w_X1_untitled_J17 at hw
  refine lv_iload_n hx hb dX1_untitled_17 rfl (lv_at hl 1 rfl) ?_
  refine lv_iload_n hx hb dX1_untitled_18 rfl (lv_at hl 2 rfl) ?_
  refine r_callI X hR (c_V (ci := 1) (q := (RX1, TX1, 21)) X hR hl.1 (c_X1_centuryWhy l g s1 s0 v1 v2) (lw_V q1454 q1456 qs46 q115 q1457) rfl rfl mh_X1_centuryWhy rfl (by decide) (by decide) rfl (cat4 (Nat.le_of_ble_eq_true rfl)) dX1_untitled_19 hw) (fun x3 h H locs cells slots hR hw => ?_)
  refine lv_istore_n (i := 3) (lv' := [(3, .int x3), (0, va_rf v0), (1, .int v1), (2, .int v2)]) hx hb dX1_untitled_22 rfl hl (by decide) rfl (fun ls hl => ?_)
  refine lv_iload_n hx hb dX1_untitled_23 rfl (lv_at hl 0 rfl) ?_
  refine lv_if_eq (tgt := 33) hx hb dX1_untitled_24 (by decide) (fun c4 => ?_) (fun c4 => ?_)
  · have hw := hw.1 c4
    refine lv_iconst (v := 0) hx hb dX1_untitled_33 (by decide) ?_
    refine lv_istore (i := 4) (lv' := [(4, .int 0), (3, .int x3), (0, va_rf v0), (1, .int v1), (2, .int v2)]) hx hb dX1_untitled_34 hl (by decide) rfl (fun ls hl => ?_)
    refine lv_iconst (v := 0) hx hb dX1_untitled_36 (by decide) ?_
    refine lv_istore (i := 5) (lv' := [(5, .int 0), (4, .int 0), (3, .int x3), (0, va_rf v0), (1, .int v1), (2, .int v2)]) hx hb dX1_untitled_37 hl (by decide) rfl (fun ls hl => ?_)
    obtain ⟨n, hw⟩ := hw
    exact t_X1_untitled_L39 X  n hw hR (lv_sub hl [3, 1, 0] rfl)
  · have hw := hw.2 c4
    refine r_aload_n X dX1_untitled_27 rfl (lv_at hl 1 rfl) ?_
    refine lv_iload_n hx hb dX1_untitled_28 rfl (lv_at hl 0 rfl) ?_
    refine r_callI X hR (c_V (ci := 1) (q := (RX1, TX1, 21)) X hR hl.1 (c_X1_no l g v0 x3) (lw_V q462 q464 qs3 q115 q465) rfl rfl mh_X1_no rfl (by decide) (by decide) rfl (cat4 (Nat.le_of_ble_eq_true rfl)) dX1_untitled_29 hw) (fun x14 h H locs cells slots hR hw => ?_)
    exact r_iret X hR dX1_untitled_32 hw
theorem c_X1_untitled (l : Launch) (g : GT) (v0 : Option Nat) (v1 : Int32) (v2 : Int32) : CT qI l yX1_untitled (ws_ yX1_untitled cX1_untitled 6 (Option.some Jvm.ClassFile.FieldType.int)) 5 g [va_rf v0, .int v1, .int v2] (fun K E h => w_X1_untitled g v0 v1 v2 K E h) := by
  refine CT_of (lv := [(0, va_rf v0), (1, .int v1), (2, .int v2)]) (by decide +kernel) (by simp [lg_sl, cat_rf, cat_int, cat_long]) (by simp [lv_args, cat_rf, cat_int, cat_long]) (fun h0 K E p e s m args below meth c H locs cells slots ls X hxt hmn hw hR hl => ?_)
  have hx := X.hx
  have hb := X.hb
  unfold w_X1_untitled at hw
  refine r_aload_n X dX1_untitled_0 rfl (lv_at hl 0 rfl) ?_
  refine r_callV X hR (c_V (ci := 1) (q := (RX1, TX1, 21)) X hR hl.1 (c_X1_anew l g v0) (lw_V q455 q457 qs2 q115 q458) rfl rfl mh_X1_anew rfl (by decide) (by decide) rfl (cat4 (Nat.le_of_ble_eq_true rfl)) dX1_untitled_1 hw) (fun _ h H locs cells slots hR hw => ?_)
  refine r_aload_n X dX1_untitled_4 rfl (lv_at hl 0 rfl) ?_
  refine r_aload_n X dX1_untitled_5 rfl (lv_at hl 0 rfl) ?_
  refine r_gR X hR fk_X1_102 dX1_untitled_6 hw (fun x1 hw => ?_)
  refine r_ifnull (tgt := 16) X dX1_untitled_9 (by decide) (fun c2 => ?_) (fun c2 => ?_)
  · have hw := hw.1 c2
    refine lv_iconst (v := 0) hx hb dX1_untitled_16 (by decide) ?_
    exact t_X1_untitled_J17 X  hw hR (lv_sub hl [0, 1, 2] rfl)
  · have hw := hw.2 c2
    refine lv_iconst (v := 1) hx hb dX1_untitled_12 (by decide) ?_
    refine lv_goto (tgt := 17) hx hb dX1_untitled_13 (by decide) ?_
    exact t_X1_untitled_J17 X  hw hR (lv_sub hl [0, 1, 2] rfl)
theorem c_X1_yes (l : Launch) (g : GT) (v0 : Option Nat) (v1 : Int32) : CT qI l yX1_yes (ws_ yX1_yes cX1_yes 2 (Option.some Jvm.ClassFile.FieldType.boolean)) 2 g [va_rf v0, .int v1] (fun K E h => w_X1_yes g v0 v1 K E h) := by
  refine CT_of (lv := [(0, va_rf v0), (1, .int v1)]) (by decide +kernel) (by simp [lg_sl, cat_rf, cat_int, cat_long]) (by simp [lv_args, cat_rf, cat_int, cat_long]) (fun h0 K E p e s m args below meth c H locs cells slots ls X hxt hmn hw hR hl => ?_)
  have hx := X.hx
  have hb := X.hb
  unfold w_X1_yes at hw
  refine r_aload_n X dX1_yes_0 rfl (lv_at hl 0 rfl) ?_
  refine r_callV X hR (c_V (ci := 1) (q := (RX1, TX1, 21)) X hR hl.1 (c_X1_anew l g v0) (lw_V q455 q457 qs2 q115 q458) rfl rfl mh_X1_anew rfl (by decide) (by decide) rfl (cat4 (Nat.le_of_ble_eq_true rfl)) dX1_yes_1 hw) (fun _ h H locs cells slots hR hw => ?_)
  refine r_aload_n X dX1_yes_4 rfl (lv_at hl 0 rfl) ?_
  refine lv_iload_n hx hb dX1_yes_5 rfl (lv_at hl 1 rfl) ?_
  refine r_put X hR fp_X1_74 (Or.inl fn_X1_74) (nf_int _) dX1_yes_6 hw (fun H locs h hR hw => ?_)
  refine lv_iload_n hx hb dX1_yes_9 rfl (lv_at hl 1 rfl) ?_
  refine lv_if_ne (tgt := 17) hx hb dX1_yes_10 (by decide) (fun c1 => ?_) (fun c1 => ?_)
  · have hw := hw.1 c1
    refine lv_iconst (v := 0) hx hb dX1_yes_17 (by decide) ?_
    exact r_zret X hR dX1_yes_18 hw
  · have hw := hw.2 c1
    refine lv_iconst (v := 1) hx hb dX1_yes_13 (by decide) ?_
    refine lv_goto (tgt := 18) hx hb dX1_yes_14 (by decide) ?_
    exact r_zret X hR dX1_yes_18 hw
theorem c_X1_note (l : Launch) (g : GT) (v0 : Option Nat) : CT qV l yX1_note (ws_ yX1_note cX1_note 1 none) 2 g [va_rf v0] (fun K E h => w_X1_note g v0 K E h) := by
  refine CT_of (lv := [(0, va_rf v0)]) (by decide +kernel) (by simp [lg_sl, cat_rf, cat_int, cat_long]) (by simp [lv_args, cat_rf, cat_int, cat_long]) (fun h0 K E p e s m args below meth c H locs cells slots ls X hxt hmn hw hR hl => ?_)
  have hx := X.hx
  have hb := X.hb
  unfold w_X1_note at hw
  refine r_aload_n X dX1_note_0 rfl (lv_at hl 0 rfl) ?_
  refine r_gR X hR fk_X1_37 dX1_note_1 hw (fun x1 hw => ?_)
  refine r_aload_n X dX1_note_4 rfl (lv_at hl 0 rfl) ?_
  refine r_gR X hR fk_X1_33 dX1_note_5 hw (fun x2 hw => ?_)
  refine r_callV X hR (c_V (ci := 4) (q := (RX4, TX4, 4)) X hR hl.1 (c_X4_become l g x1 x2) (lw_V q1287 q1288 q1289 q121 q1290) rfl rfl mh_X4_become rfl (by decide) (by decide) rfl (cat4 (Nat.le_of_ble_eq_true rfl)) dX1_note_8 hw) (fun _ h H locs cells slots hR hw => ?_)
  exact r_vret X hR rfl dX1_note_11 hw
