set_option maxRecDepth 100000
theorem t_X8_umbrella_J22 {p : Program} {l : Launch} {e : Env} {s : State} {m : MethodId} {args : Array Value} {below : List Frame} {meth : Method} {c : Code} {g : GT} {h0 : AH} {v0 : Option Nat} {K : Int32 → AH → Prop} {E : Nat → AH → Prop} {h : AH} {H : Heap} {locs : List Loc} {cells slots : Nat} {ls : Array Slot} (X : Cx g h0 p s m args meth c RX8 cX8_umbrella 3 (Option.some Jvm.ClassFile.FieldType.int))  (hw : w_X8_umbrella_J22 g v0 K E h) (hR : HS g s h H locs) (hl : lv_has ls 3 [(0, va_rf v0)]) : W p l e (RM 2 h0) s m args below meth c H locs cells slots (MQT below g (qI K) E args s h0) (F0 m 22 ls []) := by
  have hx := X.hx
  have hb := X.hb
  unfold w_X8_umbrella_J22 at hw
  refine r_aload_n X dX8_umbrella_22 rfl (lv_at hl 0 rfl) ?_
  refine lv_iconst (v := 1) hx hb dX8_umbrella_23 (by decide) ?_
  refine r_callI X hR (c_V (ci := 8) (q := (RX8, TX8, 32)) X hR hl.1 (c_X8_refused l g v0 1) (lw_V q1657 q1659 qs50 q125 q1660) rfl rfl mh_X8_refused rfl (by decide) (by decide) rfl (cat4 (Nat.le_of_ble_eq_true rfl)) dX8_umbrella_24 hw) (fun x3 h H locs cells slots hR hw => ?_)
  exact r_iret X hR dX8_umbrella_27 hw
theorem c_X8_umbrella (l : Launch) (g : GT) (v0 : Option Nat) (v1 : Int32) (v2 : Int32) : CT qI l yX8_umbrella (ws_ yX8_umbrella cX8_umbrella 3 (Option.some Jvm.ClassFile.FieldType.int)) 2 g [va_rf v0, .int v1, .int v2] (fun K E h => w_X8_umbrella g v0 v1 v2 K E h) := by
  refine CT_of (lv := [(0, va_rf v0), (1, .int v1), (2, .int v2)]) (by decide +kernel) (by simp [lg_sl, cat_rf, cat_int, cat_long]) (by simp [lv_args, cat_rf, cat_int, cat_long]) (fun h0 K E p e s m args below meth c H locs cells slots ls X hxt hmn hw hR hl => ?_)
  have hx := X.hx
  have hb := X.hb
  unfold w_X8_umbrella at hw
  refine r_aload_n X dX8_umbrella_0 rfl (lv_at hl 0 rfl) ?_
  refine lv_iconst (v := 0) hx hb dX8_umbrella_1 (by decide) ?_
  refine r_put X hR fp_X8_45 (Or.inl fn_X8_45) (nf_int _) dX8_umbrella_2 hw (fun H locs h hR hw => ?_)
  refine r_aload_n X dX8_umbrella_5 rfl (lv_at hl 0 rfl) ?_
  refine lv_iload_n hx hb dX8_umbrella_6 rfl (lv_at hl 1 rfl) ?_
  refine r_callI X hR (c_V (ci := 8) (q := (RX8, TX8, 32)) X hR hl.1 (c_X8_isUmbrella l g v0 v1) (lw_V q1945 q1947 qs79 q125 q1948) rfl rfl mh_X8_isUmbrella rfl (by decide) (by decide) rfl (cat4 (Nat.le_of_ble_eq_true rfl)) dX8_umbrella_7 hw) (fun x1 h H locs cells slots hR hw => ?_)
  refine lv_if_eq (tgt := 22) hx hb dX8_umbrella_10 (by decide) (fun c2 => ?_) (fun c2 => ?_)
  · have hw := hw.1 c2
    exact t_X8_umbrella_J22 X  hw hR (lv_sub hl [0] rfl)
  · have hw := hw.2 c2
    refine lv_iload_n hx hb dX8_umbrella_13 rfl (lv_at hl 2 rfl) ?_
    refine lv_iconst (v := 0) hx hb dX8_umbrella_14 (by decide) ?_
    refine lv_iconst (v := 4) hx hb dX8_umbrella_15 (by decide) ?_
    refine r_callI X hR (c_S X hR hl.1 (c_X8_in l g v2 0 4) (lw_S q1834 q1835 q125 q1836) mh_X8_in rfl (by decide) (by decide) rfl (cat4 (Nat.le_of_ble_eq_true rfl)) dX8_umbrella_16 hw) (fun x4 h H locs cells slots hR hw => ?_)
    refine lv_if_ne (tgt := 28) hx hb dX8_umbrella_19 (by decide) (fun c5 => ?_) (fun c5 => ?_)
    · have hw := hw.1 c5
      refine lv_iload_n hx hb dX8_umbrella_28 rfl (lv_at hl 2 rfl) ?_
      by_cases c6_0 : v2 = 0
      · have hw := swT_at hw 0 rfl c6_0
        rw [c6_0]
        refine lv_tableIn (tgt := 60) hx hb dX8_umbrella_29 (by decide) (by decide) rfl (by decide) ?_
        refine r_aload_n X dX8_umbrella_60 rfl (lv_at hl 0 rfl) ?_
        refine r_aload_n X dX8_umbrella_61 rfl (lv_at hl 0 rfl) ?_
        refine r_gR X hR fk_X8_316 dX8_umbrella_62 hw (fun x7 hw => ?_)
        refine r_gR X hR fk_X8_270 dX8_umbrella_65 hw (fun x8 hw => ?_)
        refine lv_iload_n hx hb dX8_umbrella_68 rfl (lv_at hl 1 rfl) ?_
        refine r_iald X hR dX8_umbrella_69 hw (fun x9 hw => ?_)
        refine r_callI X hR (c_V (ci := 8) (q := (RX8, TX8, 32)) X hR hl.1 (c_X8_good l g v0 x9) (lw_V q1929 q1931 qs78 q125 q1932) rfl rfl mh_X8_good rfl (by decide) (by decide) rfl (cat4 (Nat.le_of_ble_eq_true rfl)) dX8_umbrella_70 hw) (fun x10 h H locs cells slots hR hw => ?_)
        exact r_iret X hR dX8_umbrella_73 hw
      by_cases c6_1 : v2 = 1
      · have hw := swT_at hw 1 rfl c6_1
        rw [c6_1]
        refine lv_tableIn (tgt := 74) hx hb dX8_umbrella_29 (by decide) (by decide) rfl (by decide) ?_
        refine r_aload_n X dX8_umbrella_74 rfl (lv_at hl 0 rfl) ?_
        refine r_aload_n X dX8_umbrella_75 rfl (lv_at hl 0 rfl) ?_
        refine r_gR X hR fk_X8_316 dX8_umbrella_76 hw (fun x11 hw => ?_)
        refine r_gR X hR fk_X8_273 dX8_umbrella_79 hw (fun x12 hw => ?_)
        refine lv_iload_n hx hb dX8_umbrella_82 rfl (lv_at hl 1 rfl) ?_
        refine r_iald X hR dX8_umbrella_83 hw (fun x13 hw => ?_)
        refine r_callI X hR (c_V (ci := 8) (q := (RX8, TX8, 32)) X hR hl.1 (c_X8_good l g v0 x13) (lw_V q1929 q1931 qs78 q125 q1932) rfl rfl mh_X8_good rfl (by decide) (by decide) rfl (cat4 (Nat.le_of_ble_eq_true rfl)) dX8_umbrella_84 hw) (fun x14 h H locs cells slots hR hw => ?_)
        exact r_iret X hR dX8_umbrella_87 hw
      by_cases c6_2 : v2 = 2
      · have hw := swT_at hw 2 rfl c6_2
        rw [c6_2]
        refine lv_tableIn (tgt := 88) hx hb dX8_umbrella_29 (by decide) (by decide) rfl (by decide) ?_
        refine r_aload_n X dX8_umbrella_88 rfl (lv_at hl 0 rfl) ?_
        refine r_aload_n X dX8_umbrella_89 rfl (lv_at hl 0 rfl) ?_
        refine r_gR X hR fk_X8_316 dX8_umbrella_90 hw (fun x15 hw => ?_)
        refine r_gR X hR fk_X8_275 dX8_umbrella_93 hw (fun x16 hw => ?_)
        refine lv_iload_n hx hb dX8_umbrella_96 rfl (lv_at hl 1 rfl) ?_
        refine r_iald X hR dX8_umbrella_97 hw (fun x17 hw => ?_)
        refine r_callI X hR (c_V (ci := 8) (q := (RX8, TX8, 32)) X hR hl.1 (c_X8_good l g v0 x17) (lw_V q1929 q1931 qs78 q125 q1932) rfl rfl mh_X8_good rfl (by decide) (by decide) rfl (cat4 (Nat.le_of_ble_eq_true rfl)) dX8_umbrella_98 hw) (fun x18 h H locs cells slots hR hw => ?_)
        exact r_iret X hR dX8_umbrella_101 hw
      by_cases c6_3 : v2 = 3
      · have hw := swT_at hw 3 rfl c6_3
        rw [c6_3]
        refine lv_tableIn (tgt := 102) hx hb dX8_umbrella_29 (by decide) (by decide) rfl (by decide) ?_
        refine r_aload_n X dX8_umbrella_102 rfl (lv_at hl 0 rfl) ?_
        refine r_aload_n X dX8_umbrella_103 rfl (lv_at hl 0 rfl) ?_
        refine r_gR X hR fk_X8_17 dX8_umbrella_104 hw (fun x19 hw => ?_)
        refine lv_iconst (v := 0) hx hb dX8_umbrella_107 (by decide) ?_
        refine lv_iload_n hx hb dX8_umbrella_108 rfl (lv_at hl 1 rfl) ?_
        refine lv_iadd hx hb dX8_umbrella_109 ?_
        refine r_iald X hR dX8_umbrella_110 hw (fun x20 hw => ?_)
        refine r_callI X hR (c_V (ci := 8) (q := (RX8, TX8, 32)) X hR hl.1 (c_X8_good l g v0 x20) (lw_V q1929 q1931 qs78 q125 q1932) rfl rfl mh_X8_good rfl (by decide) (by decide) rfl (cat4 (Nat.le_of_ble_eq_true rfl)) dX8_umbrella_111 hw) (fun x21 h H locs cells slots hR hw => ?_)
        exact r_iret X hR dX8_umbrella_114 hw
      have hw := hw.2 (List.forall_mem_cons.mpr ⟨c6_0, (List.forall_mem_cons.mpr ⟨c6_1, (List.forall_mem_cons.mpr ⟨c6_2, (List.forall_mem_cons.mpr ⟨c6_3, (fun _ h => absurd h List.not_mem_nil)⟩)⟩)⟩)⟩)
      refine lv_tableOut (tgt := 115) hx hb dX8_umbrella_29 (sw_out (x := v2) (lo := 0) (n := 4) (by decide) (lt_s (lt_s (lt_s (lt_s lt_0 c6_0) c6_1) c6_2) c6_3)) (by decide) ?_
      refine r_aload_n X dX8_umbrella_115 rfl (lv_at hl 0 rfl) ?_
      refine r_aload_n X dX8_umbrella_116 rfl (lv_at hl 0 rfl) ?_
      refine r_gR X hR fk_X8_17 dX8_umbrella_117 hw (fun x22 hw => ?_)
      refine lv_iconst (v := 5) hx hb dX8_umbrella_120 (by decide) ?_
      refine lv_iload_n hx hb dX8_umbrella_121 rfl (lv_at hl 1 rfl) ?_
      refine lv_iadd hx hb dX8_umbrella_122 ?_
      refine r_iald X hR dX8_umbrella_123 hw (fun x23 hw => ?_)
      refine r_callI X hR (c_V (ci := 8) (q := (RX8, TX8, 32)) X hR hl.1 (c_X8_good l g v0 x23) (lw_V q1929 q1931 qs78 q125 q1932) rfl rfl mh_X8_good rfl (by decide) (by decide) rfl (cat4 (Nat.le_of_ble_eq_true rfl)) dX8_umbrella_124 hw) (fun x24 h H locs cells slots hR hw => ?_)
      exact r_iret X hR dX8_umbrella_127 hw
    · have hw := hw.2 c5
      exact t_X8_umbrella_J22 X  hw hR (lv_sub hl [0] rfl)
theorem c_X8_isPerson (l : Launch) (g : GT) (v0 : Option Nat) (v1 : Int32) : CT qI l yX8_isPerson (ws_ yX8_isPerson cX8_isPerson 2 (Option.some Jvm.ClassFile.FieldType.boolean)) 1 g [va_rf v0, .int v1] (fun K E h => w_X8_isPerson g v0 v1 K E h) := by
  refine CT_of (lv := [(0, va_rf v0), (1, .int v1)]) (by decide +kernel) (by simp [lg_sl, cat_rf, cat_int, cat_long]) (by simp [lv_args, cat_rf, cat_int, cat_long]) (fun h0 K E p e s m args below meth c H locs cells slots ls X hxt hmn hw hR hl => ?_)
  have hx := X.hx
  have hb := X.hb
  unfold w_X8_isPerson at hw
  refine r_aload_n X dX8_isPerson_0 rfl (lv_at hl 0 rfl) ?_
  refine r_gR X hR fk_X8_316 dX8_isPerson_1 hw (fun x1 hw => ?_)
  refine r_ifnull (tgt := 26) X dX8_isPerson_4 (by decide) (fun c2 => ?_) (fun c2 => ?_)
  · have hw := hw.1 c2
    refine lv_iconst (v := 0) hx hb dX8_isPerson_26 (by decide) ?_
    exact r_zret X hR dX8_isPerson_27 hw
  · have hw := hw.2 c2
    refine lv_iload_n hx hb dX8_isPerson_7 rfl (lv_at hl 1 rfl) ?_
    refine lv_if_lt (tgt := 26) hx hb dX8_isPerson_8 (by decide) (fun c3 => ?_) (fun c3 => ?_)
    · have hw := hw.1 c3
      refine lv_iconst (v := 0) hx hb dX8_isPerson_26 (by decide) ?_
      exact r_zret X hR dX8_isPerson_27 hw
    · have hw := hw.2 c3
      refine lv_iload_n hx hb dX8_isPerson_11 rfl (lv_at hl 1 rfl) ?_
      refine r_aload_n X dX8_isPerson_12 rfl (lv_at hl 0 rfl) ?_
      refine r_gR X hR fk_X8_316 dX8_isPerson_13 hw (fun x4 hw => ?_)
      refine r_gI X hR fk_X8_191 dX8_isPerson_16 hw (fun x5 hw => ?_)
      refine lv_icmp_ge (tgt := 26) hx hb dX8_isPerson_19 (by decide) (fun c6 => ?_) (fun c6 => ?_)
      · have hw := hw.1 c6
        refine lv_iconst (v := 0) hx hb dX8_isPerson_26 (by decide) ?_
        exact r_zret X hR dX8_isPerson_27 hw
      · have hw := hw.2 c6
        refine lv_iconst (v := 1) hx hb dX8_isPerson_22 (by decide) ?_
        refine lv_goto (tgt := 27) hx hb dX8_isPerson_23 (by decide) ?_
        exact r_zret X hR dX8_isPerson_27 hw
theorem t_X8_hadBy_J36 {p : Program} {l : Launch} {e : Env} {s : State} {m : MethodId} {args : Array Value} {below : List Frame} {meth : Method} {c : Code} {g : GT} {h0 : AH} {v0 : Option Nat} {v1 : Option Nat} {v2 : Int32} {v4 : Int32} {s0 : Int32} {s1 : Int32} {K : Int32 → AH → Prop} {E : Nat → AH → Prop} {L5 : Int32 → Int32 → AH → Prop} {h : AH} {H : Heap} {locs : List Loc} {cells slots : Nat} {ls : Array Slot} (X : Cx g h0 p s m args meth c RX8 cX8_hadBy 5 (Option.some Jvm.ClassFile.FieldType.int)) (k5 : ∀ {v3' : Int32} {v4' : Int32} {h : AH} {H : Heap} {locs : List Loc} {cells slots : Nat} {ls : Array Slot}, L5 v3' v4' h → HS g s h H locs → lv_has ls 5 [(0, va_rf v0), (1, va_rf v1), (2, .int v2), (3, .int (v3')), (4, .int (v4'))] → W p l e (RM 1 h0) s m args below meth c H locs cells slots (MQT below g (qI K) E args s h0) (F0 m 5 ls [])) (hw : w_X8_hadBy_J36 g v0 v1 v2 v4 s0 s1 K E L5 h) (hR : HS g s h H locs) (hl : lv_has ls 5 [(0, va_rf v0), (1, va_rf v1), (2, .int v2), (4, .int v4)]) : W p l e (RM 1 h0) s m args below meth c H locs cells slots (MQT below g (qI K) E args s h0) (F0 m 36 ls [.int s0, .int s1]) := by
  have hx := X.hx
  have hb := X.hb
  unfold w_X8_hadBy_J36 at hw
  refine lv_ior hx hb dX8_hadBy_36 ?_
  refine r_nmI hw (fun x6 hw => ?_)
  refine lv_istore_n (i := 3) (lv' := [(3, .int x6), (0, va_rf v0), (1, va_rf v1), (2, .int v2), (4, .int v4)]) hx hb dX8_hadBy_37 rfl hl (by decide) rfl (fun ls hl => ?_)
  refine r_iinc X (k := 4) (v := (v4 + 1)) (lv' := fun x7 => [(4, .int x7), (3, .int x6), (0, va_rf v0), (1, va_rf v1), (2, .int v2)]) dX8_hadBy_38 hl rfl rfl (by decide) hw (fun _ => rfl) (fun x7 hw ls hl => ?_)
  refine lv_goto (tgt := 5) hx hb dX8_hadBy_41 (by decide) ?_
  exact k5 hw hR (lv_sub hl [2, 3, 4, 1, 0] rfl)
theorem t_X8_hadBy_L5 {p : Program} {l : Launch} {e : Env} {s : State} {m : MethodId} {args : Array Value} {below : List Frame} {meth : Method} {c : Code} {g : GT} {h0 : AH} {v0 : Option Nat} {v1 : Option Nat} {v2 : Int32} {K : Int32 → AH → Prop} {E : Nat → AH → Prop} (X : Cx g h0 p s m args meth c RX8 cX8_hadBy 5 (Option.some Jvm.ClassFile.FieldType.int))  : ∀ (n : Nat) {v3 : Int32} {v4 : Int32} {h : AH} {H : Heap} {locs : List Loc} {cells slots : Nat} {ls : Array Slot}, LpN2 (w_X8_hadBy_L5 g v0 v1 v2 K E) n v3 v4 h → HS g s h H locs → lv_has ls 5 [(0, va_rf v0), (1, va_rf v1), (2, .int v2), (3, .int v3), (4, .int v4)] → W p l e (RM 1 h0) s m args below meth c H locs cells slots (MQT below g (qI K) E args s h0) (F0 m 5 ls []) := by
  have hx := X.hx
  have hb := X.hb
  intro n
  induction n with
  | zero =>
    intro v3 v4 h H locs cells slots ls hw
    exact hw.elim
  | succ n k5 =>
    intro v3 v4 h H locs cells slots ls hw hR hl
    have hw : w_X8_hadBy_L5 g v0 v1 v2 K E (LpN2 (w_X8_hadBy_L5 g v0 v1 v2 K E) n) v3 v4 h := hw
    unfold w_X8_hadBy_L5 at hw
    refine lv_iload hx hb dX8_hadBy_5 (lv_at hl 4 rfl) ?_
    refine r_aload_n X dX8_hadBy_7 rfl (lv_at hl 0 rfl) ?_
    refine r_gR X hR fk_X8_316 dX8_hadBy_8 hw (fun x1 hw => ?_)
    refine r_gI X hR fk_X8_194 dX8_hadBy_11 hw (fun x2 hw => ?_)
    refine lv_icmp_ge (tgt := 44) hx hb dX8_hadBy_14 (by decide) (fun c3 => ?_) (fun c3 => ?_)
    · have hw := hw.1 c3
      refine lv_iload_n hx hb dX8_hadBy_44 rfl (lv_at hl 3 rfl) ?_
      exact r_iret X hR dX8_hadBy_45 hw
    · have hw := hw.2 c3
      refine lv_iload_n hx hb dX8_hadBy_17 rfl (lv_at hl 3 rfl) ?_
      refine r_aload_n X dX8_hadBy_18 rfl (lv_at hl 1 rfl) ?_
      refine lv_iconst (v := 0) hx hb dX8_hadBy_19 (by decide) ?_
      refine lv_iload hx hb dX8_hadBy_20 (lv_at hl 4 rfl) ?_
      refine lv_iadd hx hb dX8_hadBy_22 ?_
      refine r_iald X hR dX8_hadBy_23 hw (fun x4 hw => ?_)
      refine lv_iload_n hx hb dX8_hadBy_24 rfl (lv_at hl 2 rfl) ?_
      refine lv_icmp_ne (tgt := 35) hx hb dX8_hadBy_25 (by decide) (fun c5 => ?_) (fun c5 => ?_)
      · have hw := hw.1 c5
        refine lv_iconst (v := 0) hx hb dX8_hadBy_35 (by decide) ?_
        exact t_X8_hadBy_J36 X k5 hw hR (lv_sub hl [0, 1, 2, 4] rfl)
      · have hw := hw.2 c5
        refine lv_iconst (v := 1) hx hb dX8_hadBy_28 (by decide) ?_
        refine lv_iload hx hb dX8_hadBy_29 (lv_at hl 4 rfl) ?_
        refine lv_ishl hx hb dX8_hadBy_31 ?_
        refine lv_goto (tgt := 36) hx hb dX8_hadBy_32 (by decide) ?_
        exact t_X8_hadBy_J36 X k5 hw hR (lv_sub hl [0, 1, 2, 4] rfl)
theorem c_X8_hadBy (l : Launch) (g : GT) (v0 : Option Nat) (v1 : Option Nat) (v2 : Int32) : CT qI l yX8_hadBy (ws_ yX8_hadBy cX8_hadBy 5 (Option.some Jvm.ClassFile.FieldType.int)) 1 g [va_rf v0, va_rf v1, .int v2] (fun K E h => w_X8_hadBy g v0 v1 v2 K E h) := by
  refine CT_of (lv := [(0, va_rf v0), (1, va_rf v1), (2, .int v2)]) (by decide +kernel) (by simp [lg_sl, cat_rf, cat_int, cat_long]) (by simp [lv_args, cat_rf, cat_int, cat_long]) (fun h0 K E p e s m args below meth c H locs cells slots ls X hxt hmn hw hR hl => ?_)
  have hx := X.hx
  have hb := X.hb
  unfold w_X8_hadBy at hw
  refine lv_iconst (v := 0) hx hb dX8_hadBy_0 (by decide) ?_
  refine lv_istore_n (i := 3) (lv' := [(3, .int 0), (0, va_rf v0), (1, va_rf v1), (2, .int v2)]) hx hb dX8_hadBy_1 rfl hl (by decide) rfl (fun ls hl => ?_)
  refine lv_iconst (v := 0) hx hb dX8_hadBy_2 (by decide) ?_
  refine lv_istore (i := 4) (lv' := [(4, .int 0), (3, .int 0), (0, va_rf v0), (1, va_rf v1), (2, .int v2)]) hx hb dX8_hadBy_3 hl (by decide) rfl (fun ls hl => ?_)
  obtain ⟨n, hw⟩ := hw
  exact t_X8_hadBy_L5 X  n hw hR (lv_sub hl [2, 3, 4, 1, 0] rfl)
theorem t_X8_landsIn_J42 {p : Program} {l : Launch} {e : Env} {s : State} {m : MethodId} {args : Array Value} {below : List Frame} {meth : Method} {c : Code} {g : GT} {h0 : AH} {v0 : Option Nat} {v1 : Option Nat} {v2 : Int32} {v4 : Int32} {s0 : Int32} {s1 : Int32} {K : Int32 → AH → Prop} {E : Nat → AH → Prop} {L5 : Int32 → Int32 → AH → Prop} {h : AH} {H : Heap} {locs : List Loc} {cells slots : Nat} {ls : Array Slot} (X : Cx g h0 p s m args meth c RX8 cX8_landsIn 5 (Option.some Jvm.ClassFile.FieldType.int)) (k5 : ∀ {v3' : Int32} {v4' : Int32} {h : AH} {H : Heap} {locs : List Loc} {cells slots : Nat} {ls : Array Slot}, L5 v3' v4' h → HS g s h H locs → lv_has ls 5 [(0, va_rf v0), (1, va_rf v1), (2, .int v2), (3, .int (v3')), (4, .int (v4'))] → W p l e (RM 1 h0) s m args below meth c H locs cells slots (MQT below g (qI K) E args s h0) (F0 m 5 ls [])) (hw : w_X8_landsIn_J42 g v0 v1 v2 v4 s0 s1 K E L5 h) (hR : HS g s h H locs) (hl : lv_has ls 5 [(0, va_rf v0), (1, va_rf v1), (2, .int v2), (4, .int v4)]) : W p l e (RM 1 h0) s m args below meth c H locs cells slots (MQT below g (qI K) E args s h0) (F0 m 42 ls [.int s0, .int s1]) := by
  have hx := X.hx
  have hb := X.hb
  unfold w_X8_landsIn_J42 at hw
  refine lv_iadd hx hb dX8_landsIn_42 ?_
  refine r_nmI hw (fun x6 hw => ?_)
  refine lv_istore_n (i := 3) (lv' := [(3, .int x6), (0, va_rf v0), (1, va_rf v1), (2, .int v2), (4, .int v4)]) hx hb dX8_landsIn_43 rfl hl (by decide) rfl (fun ls hl => ?_)
  refine r_iinc X (k := 4) (v := (v4 + 1)) (lv' := fun x7 => [(4, .int x7), (3, .int x6), (0, va_rf v0), (1, va_rf v1), (2, .int v2)]) dX8_landsIn_44 hl rfl rfl (by decide) hw (fun _ => rfl) (fun x7 hw ls hl => ?_)
  refine lv_goto (tgt := 5) hx hb dX8_landsIn_47 (by decide) ?_
  exact k5 hw hR (lv_sub hl [2, 3, 4, 1, 0] rfl)
theorem t_X8_landsIn_L5 {p : Program} {l : Launch} {e : Env} {s : State} {m : MethodId} {args : Array Value} {below : List Frame} {meth : Method} {c : Code} {g : GT} {h0 : AH} {v0 : Option Nat} {v1 : Option Nat} {v2 : Int32} {K : Int32 → AH → Prop} {E : Nat → AH → Prop} (X : Cx g h0 p s m args meth c RX8 cX8_landsIn 5 (Option.some Jvm.ClassFile.FieldType.int))  : ∀ (n : Nat) {v3 : Int32} {v4 : Int32} {h : AH} {H : Heap} {locs : List Loc} {cells slots : Nat} {ls : Array Slot}, LpN2 (w_X8_landsIn_L5 g v0 v1 v2 K E) n v3 v4 h → HS g s h H locs → lv_has ls 5 [(0, va_rf v0), (1, va_rf v1), (2, .int v2), (3, .int v3), (4, .int v4)] → W p l e (RM 1 h0) s m args below meth c H locs cells slots (MQT below g (qI K) E args s h0) (F0 m 5 ls []) := by
  have hx := X.hx
  have hb := X.hb
  intro n
  induction n with
  | zero =>
    intro v3 v4 h H locs cells slots ls hw
    exact hw.elim
  | succ n k5 =>
    intro v3 v4 h H locs cells slots ls hw hR hl
    have hw : w_X8_landsIn_L5 g v0 v1 v2 K E (LpN2 (w_X8_landsIn_L5 g v0 v1 v2 K E) n) v3 v4 h := hw
    unfold w_X8_landsIn_L5 at hw
    refine lv_iload hx hb dX8_landsIn_5 (lv_at hl 4 rfl) ?_
    refine r_aload_n X dX8_landsIn_7 rfl (lv_at hl 0 rfl) ?_
    refine r_gR X hR fk_X8_316 dX8_landsIn_8 hw (fun x1 hw => ?_)
    refine r_gI X hR fk_X8_194 dX8_landsIn_11 hw (fun x2 hw => ?_)
    refine lv_icmp_ge (tgt := 50) hx hb dX8_landsIn_14 (by decide) (fun c3 => ?_) (fun c3 => ?_)
    · have hw := hw.1 c3
      refine lv_iload_n hx hb dX8_landsIn_50 rfl (lv_at hl 3 rfl) ?_
      exact r_iret X hR dX8_landsIn_51 hw
    · have hw := hw.2 c3
      refine lv_iload_n hx hb dX8_landsIn_17 rfl (lv_at hl 3 rfl) ?_
      refine r_aload_n X dX8_landsIn_18 rfl (lv_at hl 1 rfl) ?_
      refine lv_iconst (v := 5) hx hb dX8_landsIn_19 (by decide) ?_
      refine lv_iload hx hb dX8_landsIn_20 (lv_at hl 4 rfl) ?_
      refine lv_iadd hx hb dX8_landsIn_22 ?_
      refine r_iald X hR dX8_landsIn_23 hw (fun x4 hw => ?_)
      refine lv_iload_n hx hb dX8_landsIn_24 rfl (lv_at hl 2 rfl) ?_
      refine lv_icmp_ne (tgt := 41) hx hb dX8_landsIn_25 (by decide) (fun c5 => ?_) (fun c5 => ?_)
      · have hw := hw.1 c5
        refine lv_iconst (v := 0) hx hb dX8_landsIn_41 (by decide) ?_
        exact t_X8_landsIn_J42 X k5 hw hR (lv_sub hl [0, 1, 2, 4] rfl)
      · have hw := hw.2 c5
        refine r_aload_n X dX8_landsIn_28 rfl (lv_at hl 0 rfl) ?_
        refine r_gR X hR fk_X8_316 dX8_landsIn_29 hw (fun x8 hw => ?_)
        refine r_gR X hR fk_X8_273 dX8_landsIn_32 hw (fun x9 hw => ?_)
        refine lv_iload hx hb dX8_landsIn_35 (lv_at hl 4 rfl) ?_
        refine r_iald X hR dX8_landsIn_37 hw (fun x10 hw => ?_)
        refine lv_goto (tgt := 42) hx hb dX8_landsIn_38 (by decide) ?_
        exact t_X8_landsIn_J42 X k5 hw hR (lv_sub hl [0, 1, 2, 4] rfl)
theorem c_X8_landsIn (l : Launch) (g : GT) (v0 : Option Nat) (v1 : Option Nat) (v2 : Int32) : CT qI l yX8_landsIn (ws_ yX8_landsIn cX8_landsIn 5 (Option.some Jvm.ClassFile.FieldType.int)) 1 g [va_rf v0, va_rf v1, .int v2] (fun K E h => w_X8_landsIn g v0 v1 v2 K E h) := by
  refine CT_of (lv := [(0, va_rf v0), (1, va_rf v1), (2, .int v2)]) (by decide +kernel) (by simp [lg_sl, cat_rf, cat_int, cat_long]) (by simp [lv_args, cat_rf, cat_int, cat_long]) (fun h0 K E p e s m args below meth c H locs cells slots ls X hxt hmn hw hR hl => ?_)
  have hx := X.hx
  have hb := X.hb
  unfold w_X8_landsIn at hw
  refine lv_iconst (v := 0) hx hb dX8_landsIn_0 (by decide) ?_
  refine lv_istore_n (i := 3) (lv' := [(3, .int 0), (0, va_rf v0), (1, va_rf v1), (2, .int v2)]) hx hb dX8_landsIn_1 rfl hl (by decide) rfl (fun ls hl => ?_)
  refine lv_iconst (v := 0) hx hb dX8_landsIn_2 (by decide) ?_
  refine lv_istore (i := 4) (lv' := [(4, .int 0), (3, .int 0), (0, va_rf v0), (1, va_rf v1), (2, .int v2)]) hx hb dX8_landsIn_3 hl (by decide) rfl (fun ls hl => ?_)
  obtain ⟨n, hw⟩ := hw
  exact t_X8_landsIn_L5 X  n hw hR (lv_sub hl [2, 3, 4, 1, 0] rfl)
theorem t_X8_person_J22 {p : Program} {l : Launch} {e : Env} {s : State} {m : MethodId} {args : Array Value} {below : List Frame} {meth : Method} {c : Code} {g : GT} {h0 : AH} {v0 : Option Nat} {K : Int32 → AH → Prop} {E : Nat → AH → Prop} {h : AH} {H : Heap} {locs : List Loc} {cells slots : Nat} {ls : Array Slot} (X : Cx g h0 p s m args meth c RX8 cX8_person 3 (Option.some Jvm.ClassFile.FieldType.int))  (hw : w_X8_person_J22 g v0 K E h) (hR : HS g s h H locs) (hl : lv_has ls 3 [(0, va_rf v0)]) : W p l e (RM 2 h0) s m args below meth c H locs cells slots (MQT below g (qI K) E args s h0) (F0 m 22 ls []) := by
  have hx := X.hx
  have hb := X.hb
  unfold w_X8_person_J22 at hw
  refine r_aload_n X dX8_person_22 rfl (lv_at hl 0 rfl) ?_
  refine lv_iconst (v := 1) hx hb dX8_person_23 (by decide) ?_
  refine r_callI X hR (c_V (ci := 8) (q := (RX8, TX8, 32)) X hR hl.1 (c_X8_refused l g v0 1) (lw_V q1657 q1659 qs50 q125 q1660) rfl rfl mh_X8_refused rfl (by decide) (by decide) rfl (cat4 (Nat.le_of_ble_eq_true rfl)) dX8_person_24 hw) (fun x3 h H locs cells slots hR hw => ?_)
  exact r_iret X hR dX8_person_27 hw
theorem t_X8_person_J71 {p : Program} {l : Launch} {e : Env} {s : State} {m : MethodId} {args : Array Value} {below : List Frame} {meth : Method} {c : Code} {g : GT} {h0 : AH} {s0 : Int32} {s1 : Option Nat} {K : Int32 → AH → Prop} {E : Nat → AH → Prop} {h : AH} {H : Heap} {locs : List Loc} {cells slots : Nat} {ls : Array Slot} (X : Cx g h0 p s m args meth c RX8 cX8_person 3 (Option.some Jvm.ClassFile.FieldType.int))  (hw : w_X8_person_J71 g  s0 s1 K E h) (hR : HS g s h H locs) (hl : lv_has ls 3 []) : W p l e (RM 2 h0) s m args below meth c H locs cells slots (MQT below g (qI K) E args s h0) (F0 m 71 ls [.int s0, va_rf s1]) := by
  have hx := X.hx
  have hb := X.hb
  unfold w_X8_person_J71 at hw
  refine r_callI X hR (c_V (ci := 8) (q := (RX8, TX8, 32)) X hR hl.1 (c_X8_good l g s1 s0) (lw_V q1929 q1931 qs78 q125 q1932) rfl rfl mh_X8_good rfl (by decide) (by decide) rfl (cat4 (Nat.le_of_ble_eq_true rfl)) dX8_person_71 hw) (fun x10 h H locs cells slots hR hw => ?_)
  exact r_iret X hR dX8_person_74 hw
theorem c_X8_person (l : Launch) (g : GT) (v0 : Option Nat) (v1 : Int32) (v2 : Int32) : CT qI l yX8_person (ws_ yX8_person cX8_person 3 (Option.some Jvm.ClassFile.FieldType.int)) 2 g [va_rf v0, .int v1, .int v2] (fun K E h => w_X8_person g v0 v1 v2 K E h) := by
  refine CT_of (lv := [(0, va_rf v0), (1, .int v1), (2, .int v2)]) (by decide +kernel) (by simp [lg_sl, cat_rf, cat_int, cat_long]) (by simp [lv_args, cat_rf, cat_int, cat_long]) (fun h0 K E p e s m args below meth c H locs cells slots ls X hxt hmn hw hR hl => ?_)
  have hx := X.hx
  have hb := X.hb
  unfold w_X8_person at hw
  refine r_aload_n X dX8_person_0 rfl (lv_at hl 0 rfl) ?_
  refine lv_iconst (v := 0) hx hb dX8_person_1 (by decide) ?_
  refine r_put X hR fp_X8_45 (Or.inl fn_X8_45) (nf_int _) dX8_person_2 hw (fun H locs h hR hw => ?_)
  refine r_aload_n X dX8_person_5 rfl (lv_at hl 0 rfl) ?_
  refine lv_iload_n hx hb dX8_person_6 rfl (lv_at hl 1 rfl) ?_
  refine r_callI X hR (c_V (ci := 8) (q := (RX8, TX8, 32)) X hR hl.1 (c_X8_isPerson l g v0 v1) (lw_V q1953 q1955 qs80 q125 q1956) rfl rfl mh_X8_isPerson rfl (by decide) (by decide) rfl (cat4 (Nat.le_of_ble_eq_true rfl)) dX8_person_7 hw) (fun x1 h H locs cells slots hR hw => ?_)
  refine lv_if_eq (tgt := 22) hx hb dX8_person_10 (by decide) (fun c2 => ?_) (fun c2 => ?_)
  · have hw := hw.1 c2
    exact t_X8_person_J22 X  hw hR (lv_sub hl [0] rfl)
  · have hw := hw.2 c2
    refine lv_iload_n hx hb dX8_person_13 rfl (lv_at hl 2 rfl) ?_
    refine lv_iconst (v := 0) hx hb dX8_person_14 (by decide) ?_
    refine lv_iconst (v := 2) hx hb dX8_person_15 (by decide) ?_
    refine r_callI X hR (c_S X hR hl.1 (c_X8_in l g v2 0 2) (lw_S q1834 q1835 q125 q1836) mh_X8_in rfl (by decide) (by decide) rfl (cat4 (Nat.le_of_ble_eq_true rfl)) dX8_person_16 hw) (fun x4 h H locs cells slots hR hw => ?_)
    refine lv_if_ne (tgt := 28) hx hb dX8_person_19 (by decide) (fun c5 => ?_) (fun c5 => ?_)
    · have hw := hw.1 c5
      refine r_aload_n X dX8_person_28 rfl (lv_at hl 0 rfl) ?_
      refine lv_iload_n hx hb dX8_person_29 rfl (lv_at hl 2 rfl) ?_
      refine lv_if_ne (tgt := 45) hx hb dX8_person_30 (by decide) (fun c6 => ?_) (fun c6 => ?_)
      · have hw := hw.1 c6
        refine lv_iload_n hx hb dX8_person_45 rfl (lv_at hl 2 rfl) ?_
        refine lv_iconst (v := 1) hx hb dX8_person_46 (by decide) ?_
        refine lv_icmp_ne (tgt := 62) hx hb dX8_person_47 (by decide) (fun c7 => ?_) (fun c7 => ?_)
        · have hw := hw.1 c7
          refine r_aload_n X dX8_person_62 rfl (lv_at hl 0 rfl) ?_
          refine r_aload_n X dX8_person_63 rfl (lv_at hl 0 rfl) ?_
          refine r_gR X hR fk_X8_17 dX8_person_64 hw (fun x8 hw => ?_)
          refine lv_iload_n hx hb dX8_person_67 rfl (lv_at hl 1 rfl) ?_
          refine r_callI X hR (c_V (ci := 8) (q := (RX8, TX8, 32)) X hR hl.1 (c_X8_landsIn l g v0 x8 v1) (lw_V q1961 q1963 qs82 q125 q1964) rfl rfl mh_X8_landsIn rfl (by decide) (by decide) rfl (cat4 (Nat.le_of_ble_eq_true rfl)) dX8_person_68 hw) (fun x9 h H locs cells slots hR hw => ?_)
          exact t_X8_person_J71 X  hw hR (lv_sub hl [] rfl)
        · have hw := hw.2 c7
          refine r_aload_n X dX8_person_50 rfl (lv_at hl 0 rfl) ?_
          refine r_aload_n X dX8_person_51 rfl (lv_at hl 0 rfl) ?_
          refine r_gR X hR fk_X8_17 dX8_person_52 hw (fun x11 hw => ?_)
          refine lv_iload_n hx hb dX8_person_55 rfl (lv_at hl 1 rfl) ?_
          refine r_callI X hR (c_V (ci := 8) (q := (RX8, TX8, 32)) X hR hl.1 (c_X8_hadBy l g v0 x11 v1) (lw_V q1957 q1959 qs81 q125 q1960) rfl rfl mh_X8_hadBy rfl (by decide) (by decide) rfl (cat4 (Nat.le_of_ble_eq_true rfl)) dX8_person_56 hw) (fun x12 h H locs cells slots hR hw => ?_)
          refine lv_goto (tgt := 71) hx hb dX8_person_59 (by decide) ?_
          exact t_X8_person_J71 X  hw hR (lv_sub hl [] rfl)
      · have hw := hw.2 c6
        refine r_aload_n X dX8_person_33 rfl (lv_at hl 0 rfl) ?_
        refine r_gR X hR fk_X8_316 dX8_person_34 hw (fun x13 hw => ?_)
        refine r_gR X hR fk_X8_251 dX8_person_37 hw (fun x14 hw => ?_)
        refine lv_iload_n hx hb dX8_person_40 rfl (lv_at hl 1 rfl) ?_
        refine r_iald X hR dX8_person_41 hw (fun x15 hw => ?_)
        refine lv_goto (tgt := 71) hx hb dX8_person_42 (by decide) ?_
        exact t_X8_person_J71 X  hw hR (lv_sub hl [] rfl)
    · have hw := hw.2 c5
      exact t_X8_person_J22 X  hw hR (lv_sub hl [0] rfl)
theorem t_X8_alike_J54 {p : Program} {l : Launch} {e : Env} {s : State} {m : MethodId} {args : Array Value} {below : List Frame} {meth : Method} {c : Code} {g : GT} {h0 : AH} {v0 : Option Nat} {v1 : Int32} {v3 : Int32} {s0 : Int32} {s1 : Int32} {K : Int32 → AH → Prop} {E : Nat → AH → Prop} {L23 : Int32 → Int32 → AH → Prop} {h : AH} {H : Heap} {locs : List Loc} {cells slots : Nat} {ls : Array Slot} (X : Cx g h0 p s m args meth c RX8 cX8_alike 4 (Option.some Jvm.ClassFile.FieldType.int)) (k23 : ∀ {v2' : Int32} {v3' : Int32} {h : AH} {H : Heap} {locs : List Loc} {cells slots : Nat} {ls : Array Slot}, L23 v2' v3' h → HS g s h H locs → lv_has ls 4 [(0, va_rf v0), (1, .int v1), (2, .int (v2')), (3, .int (v3'))] → W p l e (RM 2 h0) s m args below meth c H locs cells slots (MQT below g (qI K) E args s h0) (F0 m 23 ls [])) (hw : w_X8_alike_J54 g v0 v1 v3 s0 s1 K E L23 h) (hR : HS g s h H locs) (hl : lv_has ls 4 [(0, va_rf v0), (1, .int v1), (3, .int v3)]) : W p l e (RM 2 h0) s m args below meth c H locs cells slots (MQT below g (qI K) E args s h0) (F0 m 54 ls [.int s0, .int s1]) := by
  have hx := X.hx
  have hb := X.hb
  unfold w_X8_alike_J54 at hw
  refine lv_ior hx hb dX8_alike_54 ?_
  refine r_nmI hw (fun x10 hw => ?_)
  refine lv_istore_n (i := 2) (lv' := [(2, .int x10), (0, va_rf v0), (1, .int v1), (3, .int v3)]) hx hb dX8_alike_55 rfl hl (by decide) rfl (fun ls hl => ?_)
  refine r_iinc X (k := 3) (v := (v3 + 1)) (lv' := fun x11 => [(3, .int x11), (2, .int x10), (0, va_rf v0), (1, .int v1)]) dX8_alike_56 hl rfl rfl (by decide) hw (fun _ => rfl) (fun x11 hw ls hl => ?_)
  refine lv_goto (tgt := 23) hx hb dX8_alike_59 (by decide) ?_
  exact k23 hw hR (lv_sub hl [2, 3, 1, 0] rfl)
theorem t_X8_alike_L23 {p : Program} {l : Launch} {e : Env} {s : State} {m : MethodId} {args : Array Value} {below : List Frame} {meth : Method} {c : Code} {g : GT} {h0 : AH} {v0 : Option Nat} {v1 : Int32} {K : Int32 → AH → Prop} {E : Nat → AH → Prop} (X : Cx g h0 p s m args meth c RX8 cX8_alike 4 (Option.some Jvm.ClassFile.FieldType.int))  : ∀ (n : Nat) {v2 : Int32} {v3 : Int32} {h : AH} {H : Heap} {locs : List Loc} {cells slots : Nat} {ls : Array Slot}, LpN2 (w_X8_alike_L23 g v0 v1 K E) n v2 v3 h → HS g s h H locs → lv_has ls 4 [(0, va_rf v0), (1, .int v1), (2, .int v2), (3, .int v3)] → W p l e (RM 2 h0) s m args below meth c H locs cells slots (MQT below g (qI K) E args s h0) (F0 m 23 ls []) := by
  have hx := X.hx
  have hb := X.hb
  intro n
  induction n with
  | zero =>
    intro v2 v3 h H locs cells slots ls hw
    exact hw.elim
  | succ n k23 =>
    intro v2 v3 h H locs cells slots ls hw hR hl
    have hw : w_X8_alike_L23 g v0 v1 K E (LpN2 (w_X8_alike_L23 g v0 v1 K E) n) v2 v3 h := hw
    unfold w_X8_alike_L23 at hw
    refine lv_iload_n hx hb dX8_alike_23 rfl (lv_at hl 3 rfl) ?_
    refine r_aload_n X dX8_alike_24 rfl (lv_at hl 0 rfl) ?_
    refine r_gR X hR fk_X8_316 dX8_alike_25 hw (fun x3 hw => ?_)
    refine r_gI X hR fk_X8_194 dX8_alike_28 hw (fun x4 hw => ?_)
    refine lv_icmp_ge (tgt := 62) hx hb dX8_alike_31 (by decide) (fun c5 => ?_) (fun c5 => ?_)
    · have hw := hw.1 c5
      refine r_aload_n X dX8_alike_62 rfl (lv_at hl 0 rfl) ?_
      refine lv_iload_n hx hb dX8_alike_63 rfl (lv_at hl 2 rfl) ?_
      refine r_callI X hR (c_V (ci := 8) (q := (RX8, TX8, 32)) X hR hl.1 (c_X8_good l g v0 v2) (lw_V q1929 q1931 qs78 q125 q1932) rfl rfl mh_X8_good rfl (by decide) (by decide) rfl (cat4 (Nat.le_of_ble_eq_true rfl)) dX8_alike_64 hw) (fun x6 h H locs cells slots hR hw => ?_)
      exact r_iret X hR dX8_alike_67 hw
    · have hw := hw.2 c5
      refine lv_iload_n hx hb dX8_alike_34 rfl (lv_at hl 2 rfl) ?_
      refine r_aload_n X dX8_alike_35 rfl (lv_at hl 0 rfl) ?_
      refine r_gR X hR fk_X8_316 dX8_alike_36 hw (fun x7 hw => ?_)
      refine lv_iload_n hx hb dX8_alike_39 rfl (lv_at hl 1 rfl) ?_
      refine lv_iload_n hx hb dX8_alike_40 rfl (lv_at hl 3 rfl) ?_
      refine r_callI X hR (c_V (ci := 26) (q := (RX26, TX26, 23)) X hR hl.1 (c_X26_areAlike l g x7 v1 v3) (lw_V q1969 q1970 q1971 q150 q1972) rfl rfl mh_X26_areAlike rfl (by decide) (by decide) rfl (cat4 (Nat.le_of_ble_eq_true rfl)) dX8_alike_41 hw) (fun x8 h H locs cells slots hR hw => ?_)
      refine lv_if_eq (tgt := 53) hx hb dX8_alike_44 (by decide) (fun c9 => ?_) (fun c9 => ?_)
      · have hw := hw.1 c9
        refine lv_iconst (v := 0) hx hb dX8_alike_53 (by decide) ?_
        exact t_X8_alike_J54 X k23 hw hR (lv_sub hl [0, 1, 3] rfl)
      · have hw := hw.2 c9
        refine lv_iconst (v := 1) hx hb dX8_alike_47 (by decide) ?_
        refine lv_iload_n hx hb dX8_alike_48 rfl (lv_at hl 3 rfl) ?_
        refine lv_ishl hx hb dX8_alike_49 ?_
        refine lv_goto (tgt := 54) hx hb dX8_alike_50 (by decide) ?_
        exact t_X8_alike_J54 X k23 hw hR (lv_sub hl [0, 1, 3] rfl)
theorem c_X8_alike (l : Launch) (g : GT) (v0 : Option Nat) (v1 : Int32) : CT qI l yX8_alike (ws_ yX8_alike cX8_alike 4 (Option.some Jvm.ClassFile.FieldType.int)) 2 g [va_rf v0, .int v1] (fun K E h => w_X8_alike g v0 v1 K E h) := by
  refine CT_of (lv := [(0, va_rf v0), (1, .int v1)]) (by decide +kernel) (by simp [lg_sl, cat_rf, cat_int, cat_long]) (by simp [lv_args, cat_rf, cat_int, cat_long]) (fun h0 K E p e s m args below meth c H locs cells slots ls X hxt hmn hw hR hl => ?_)
  have hx := X.hx
  have hb := X.hb
  unfold w_X8_alike at hw
  refine r_aload_n X dX8_alike_0 rfl (lv_at hl 0 rfl) ?_
  refine lv_iconst (v := 0) hx hb dX8_alike_1 (by decide) ?_
  refine r_put X hR fp_X8_45 (Or.inl fn_X8_45) (nf_int _) dX8_alike_2 hw (fun H locs h hR hw => ?_)
  refine r_aload_n X dX8_alike_5 rfl (lv_at hl 0 rfl) ?_
  refine lv_iload_n hx hb dX8_alike_6 rfl (lv_at hl 1 rfl) ?_
  refine r_callI X hR (c_V (ci := 8) (q := (RX8, TX8, 32)) X hR hl.1 (c_X8_isUmbrella l g v0 v1) (lw_V q1945 q1947 qs79 q125 q1948) rfl rfl mh_X8_isUmbrella rfl (by decide) (by decide) rfl (cat4 (Nat.le_of_ble_eq_true rfl)) dX8_alike_7 hw) (fun x1 h H locs cells slots hR hw => ?_)
  refine lv_if_ne (tgt := 19) hx hb dX8_alike_10 (by decide) (fun c2 => ?_) (fun c2 => ?_)
  · have hw := hw.1 c2
    refine lv_iconst (v := 0) hx hb dX8_alike_19 (by decide) ?_
    refine lv_istore_n (i := 2) (lv' := [(2, .int 0), (0, va_rf v0), (1, .int v1)]) hx hb dX8_alike_20 rfl hl (by decide) rfl (fun ls hl => ?_)
    refine lv_iconst (v := 0) hx hb dX8_alike_21 (by decide) ?_
    refine lv_istore_n (i := 3) (lv' := [(3, .int 0), (2, .int 0), (0, va_rf v0), (1, .int v1)]) hx hb dX8_alike_22 rfl hl (by decide) rfl (fun ls hl => ?_)
    obtain ⟨n, hw⟩ := hw
    exact t_X8_alike_L23 X  n hw hR (lv_sub hl [2, 3, 1, 0] rfl)
  · have hw := hw.2 c2
    refine r_aload_n X dX8_alike_13 rfl (lv_at hl 0 rfl) ?_
    refine lv_iconst (v := 1) hx hb dX8_alike_14 (by decide) ?_
    refine r_callI X hR (c_V (ci := 8) (q := (RX8, TX8, 32)) X hR hl.1 (c_X8_refused l g v0 1) (lw_V q1657 q1659 qs50 q125 q1660) rfl rfl mh_X8_refused rfl (by decide) (by decide) rfl (cat4 (Nat.le_of_ble_eq_true rfl)) dX8_alike_15 hw) (fun x12 h H locs cells slots hR hw => ?_)
    exact r_iret X hR dX8_alike_18 hw
theorem t_X8_rightIn_J46 {p : Program} {l : Launch} {e : Env} {s : State} {m : MethodId} {args : Array Value} {below : List Frame} {meth : Method} {c : Code} {g : GT} {h0 : AH} {v0 : Option Nat} {v1 : Option Nat} {v3 : Int32} {s0 : Int32} {s1 : Int32} {K : Int32 → AH → Prop} {E : Nat → AH → Prop} {L4 : Int32 → Int32 → AH → Prop} {h : AH} {H : Heap} {locs : List Loc} {cells slots : Nat} {ls : Array Slot} (X : Cx g h0 p s m args meth c RX8 cX8_rightIn 4 (Option.some Jvm.ClassFile.FieldType.int)) (k4 : ∀ {v2' : Int32} {v3' : Int32} {h : AH} {H : Heap} {locs : List Loc} {cells slots : Nat} {ls : Array Slot}, L4 v2' v3' h → HS g s h H locs → lv_has ls 4 [(0, va_rf v0), (1, va_rf v1), (2, .int (v2')), (3, .int (v3'))] → W p l e (RM 1 h0) s m args below meth c H locs cells slots (MQT below g (qI K) E args s h0) (F0 m 4 ls [])) (hw : w_X8_rightIn_J46 g v0 v1 v3 s0 s1 K E L4 h) (hR : HS g s h H locs) (hl : lv_has ls 4 [(0, va_rf v0), (1, va_rf v1), (3, .int v3)]) : W p l e (RM 1 h0) s m args below meth c H locs cells slots (MQT below g (qI K) E args s h0) (F0 m 46 ls [.int s0, .int s1]) := by
  have hx := X.hx
  have hb := X.hb
  unfold w_X8_rightIn_J46 at hw
  refine lv_ior hx hb dX8_rightIn_46 ?_
  refine r_nmI hw (fun x6 hw => ?_)
  refine lv_istore_n (i := 2) (lv' := [(2, .int x6), (0, va_rf v0), (1, va_rf v1), (3, .int v3)]) hx hb dX8_rightIn_47 rfl hl (by decide) (by simp [cat_rf, cat_int, cat_long]) (fun ls hl => ?_)
  refine r_iinc X (k := 3) (v := (v3 + 1)) (lv' := fun x7 => [(3, .int x7), (2, .int x6), (0, va_rf v0), (1, va_rf v1)]) dX8_rightIn_48 hl rfl rfl (by decide) hw (fun _ => rfl) (fun x7 hw ls hl => ?_)
  refine lv_goto (tgt := 4) hx hb dX8_rightIn_51 (by decide) ?_
  exact k4 hw hR (lv_sub hl [2, 3, 1, 0] rfl)
theorem t_X8_rightIn_J45 {p : Program} {l : Launch} {e : Env} {s : State} {m : MethodId} {args : Array Value} {below : List Frame} {meth : Method} {c : Code} {g : GT} {h0 : AH} {v0 : Option Nat} {v1 : Option Nat} {v3 : Int32} {s0 : Int32} {K : Int32 → AH → Prop} {E : Nat → AH → Prop} {L4 : Int32 → Int32 → AH → Prop} {h : AH} {H : Heap} {locs : List Loc} {cells slots : Nat} {ls : Array Slot} (X : Cx g h0 p s m args meth c RX8 cX8_rightIn 4 (Option.some Jvm.ClassFile.FieldType.int)) (k4 : ∀ {v2' : Int32} {v3' : Int32} {h : AH} {H : Heap} {locs : List Loc} {cells slots : Nat} {ls : Array Slot}, L4 v2' v3' h → HS g s h H locs → lv_has ls 4 [(0, va_rf v0), (1, va_rf v1), (2, .int (v2')), (3, .int (v3'))] → W p l e (RM 1 h0) s m args below meth c H locs cells slots (MQT below g (qI K) E args s h0) (F0 m 4 ls [])) (hw : w_X8_rightIn_J45 g v0 v1 v3 s0 K E L4 h) (hR : HS g s h H locs) (hl : lv_has ls 4 [(0, va_rf v0), (1, va_rf v1), (3, .int v3)]) : W p l e (RM 1 h0) s m args below meth c H locs cells slots (MQT below g (qI K) E args s h0) (F0 m 45 ls [.int s0]) := by
  have hx := X.hx
  have hb := X.hb
  unfold w_X8_rightIn_J45 at hw
  refine lv_iconst (v := 0) hx hb dX8_rightIn_45 (by decide) ?_
  exact t_X8_rightIn_J46 X k4 hw hR (lv_sub hl [0, 1, 2] rfl)
theorem t_X8_rightIn_L4 {p : Program} {l : Launch} {e : Env} {s : State} {m : MethodId} {args : Array Value} {below : List Frame} {meth : Method} {c : Code} {g : GT} {h0 : AH} {v0 : Option Nat} {v1 : Option Nat} {K : Int32 → AH → Prop} {E : Nat → AH → Prop} (X : Cx g h0 p s m args meth c RX8 cX8_rightIn 4 (Option.some Jvm.ClassFile.FieldType.int))  : ∀ (n : Nat) {v2 : Int32} {v3 : Int32} {h : AH} {H : Heap} {locs : List Loc} {cells slots : Nat} {ls : Array Slot}, LpN2 (w_X8_rightIn_L4 g v0 v1 K E) n v2 v3 h → HS g s h H locs → lv_has ls 4 [(0, va_rf v0), (1, va_rf v1), (2, .int v2), (3, .int v3)] → W p l e (RM 1 h0) s m args below meth c H locs cells slots (MQT below g (qI K) E args s h0) (F0 m 4 ls []) := by
  have hx := X.hx
  have hb := X.hb
  intro n
  induction n with
  | zero =>
    intro v2 v3 h H locs cells slots ls hw
    exact hw.elim
  | succ n k4 =>
    intro v2 v3 h H locs cells slots ls hw hR hl
    have hw : w_X8_rightIn_L4 g v0 v1 K E (LpN2 (w_X8_rightIn_L4 g v0 v1 K E) n) v2 v3 h := hw
    unfold w_X8_rightIn_L4 at hw
    refine lv_iload_n hx hb dX8_rightIn_4 rfl (lv_at hl 3 rfl) ?_
    refine r_aload_n X dX8_rightIn_5 rfl (lv_at hl 0 rfl) ?_
    refine r_gR X hR fk_X8_316 dX8_rightIn_6 hw (fun x1 hw => ?_)
    refine r_gI X hR fk_X8_194 dX8_rightIn_9 hw (fun x2 hw => ?_)
    refine lv_icmp_ge (tgt := 54) hx hb dX8_rightIn_12 (by decide) (fun c3 => ?_) (fun c3 => ?_)
    · have hw := hw.1 c3
      refine lv_iload_n hx hb dX8_rightIn_54 rfl (lv_at hl 2 rfl) ?_
      exact r_iret X hR dX8_rightIn_55 hw
    · have hw := hw.2 c3
      refine lv_iload_n hx hb dX8_rightIn_15 rfl (lv_at hl 2 rfl) ?_
      refine r_aload_n X dX8_rightIn_16 rfl (lv_at hl 1 rfl) ?_
      refine lv_iconst (v := 5) hx hb dX8_rightIn_17 (by decide) ?_
      refine lv_iload_n hx hb dX8_rightIn_18 rfl (lv_at hl 3 rfl) ?_
      refine lv_iadd hx hb dX8_rightIn_19 ?_
      refine r_iald X hR dX8_rightIn_20 hw (fun x4 hw => ?_)
      refine lv_bipush (v := (-2)) hx hb dX8_rightIn_21 (by decide) ?_
      refine lv_icmp_eq (tgt := 45) hx hb dX8_rightIn_23 (by decide) (fun c5 => ?_) (fun c5 => ?_)
      · have hw := hw.1 c5
        exact t_X8_rightIn_J45 X k4 hw hR (lv_sub hl [0, 1, 3] rfl)
      · have hw := hw.2 c5
        refine r_aload_n X dX8_rightIn_26 rfl (lv_at hl 1 rfl) ?_
        refine lv_iconst (v := 5) hx hb dX8_rightIn_27 (by decide) ?_
        refine lv_iload_n hx hb dX8_rightIn_28 rfl (lv_at hl 3 rfl) ?_
        refine lv_iadd hx hb dX8_rightIn_29 ?_
        refine r_iald X hR dX8_rightIn_30 hw (fun x8 hw => ?_)
        refine r_aload_n X dX8_rightIn_31 rfl (lv_at hl 1 rfl) ?_
        refine lv_iconst (v := 0) hx hb dX8_rightIn_32 (by decide) ?_
        refine lv_iload_n hx hb dX8_rightIn_33 rfl (lv_at hl 3 rfl) ?_
        refine lv_iadd hx hb dX8_rightIn_34 ?_
        refine r_iald X hR dX8_rightIn_35 hw (fun x9 hw => ?_)
        refine lv_icmp_ne (tgt := 45) hx hb dX8_rightIn_36 (by decide) (fun c10 => ?_) (fun c10 => ?_)
        · have hw := hw.1 c10
          exact t_X8_rightIn_J45 X k4 hw hR (lv_sub hl [0, 1, 3] rfl)
        · have hw := hw.2 c10
          refine lv_iconst (v := 1) hx hb dX8_rightIn_39 (by decide) ?_
          refine lv_iload_n hx hb dX8_rightIn_40 rfl (lv_at hl 3 rfl) ?_
          refine lv_ishl hx hb dX8_rightIn_41 ?_
          refine lv_goto (tgt := 46) hx hb dX8_rightIn_42 (by decide) ?_
          exact t_X8_rightIn_J46 X k4 hw hR (lv_sub hl [0, 1, 3] rfl)
theorem c_X8_rightIn (l : Launch) (g : GT) (v0 : Option Nat) (v1 : Option Nat) : CT qI l yX8_rightIn (ws_ yX8_rightIn cX8_rightIn 4 (Option.some Jvm.ClassFile.FieldType.int)) 1 g [va_rf v0, va_rf v1] (fun K E h => w_X8_rightIn g v0 v1 K E h) := by
  refine CT_of (lv := [(0, va_rf v0), (1, va_rf v1)]) (by decide +kernel) (by simp [lg_sl, cat_rf, cat_int, cat_long]) (by simp [lv_args, cat_rf, cat_int, cat_long]) (fun h0 K E p e s m args below meth c H locs cells slots ls X hxt hmn hw hR hl => ?_)
  have hx := X.hx
  have hb := X.hb
  unfold w_X8_rightIn at hw
  refine lv_iconst (v := 0) hx hb dX8_rightIn_0 (by decide) ?_
  refine lv_istore_n (i := 2) (lv' := [(2, .int 0), (0, va_rf v0), (1, va_rf v1)]) hx hb dX8_rightIn_1 rfl hl (by decide) (by simp [cat_rf, cat_int, cat_long]) (fun ls hl => ?_)
  refine lv_iconst (v := 0) hx hb dX8_rightIn_2 (by decide) ?_
  refine lv_istore_n (i := 3) (lv' := [(3, .int 0), (2, .int 0), (0, va_rf v0), (1, va_rf v1)]) hx hb dX8_rightIn_3 rfl hl (by decide) rfl (fun ls hl => ?_)
  obtain ⟨n, hw⟩ := hw
  exact t_X8_rightIn_L4 X  n hw hR (lv_sub hl [2, 3, 1, 0] rfl)
theorem c_X8_right (l : Launch) (g : GT) (v0 : Option Nat) : CT qI l yX8_right (ws_ yX8_right cX8_right 1 (Option.some Jvm.ClassFile.FieldType.int)) 2 g [va_rf v0] (fun K E h => w_X8_right g v0 K E h) := by
  refine CT_of (lv := [(0, va_rf v0)]) (by decide +kernel) (by simp [lg_sl, cat_rf, cat_int, cat_long]) (by simp [lv_args, cat_rf, cat_int, cat_long]) (fun h0 K E p e s m args below meth c H locs cells slots ls X hxt hmn hw hR hl => ?_)
  have hx := X.hx
  have hb := X.hb
  unfold w_X8_right at hw
  refine r_aload_n X dX8_right_0 rfl (lv_at hl 0 rfl) ?_
  refine lv_iconst (v := 0) hx hb dX8_right_1 (by decide) ?_
  refine r_put X hR fp_X8_45 (Or.inl fn_X8_45) (nf_int _) dX8_right_2 hw (fun H locs h hR hw => ?_)
  refine r_aload_n X dX8_right_5 rfl (lv_at hl 0 rfl) ?_
  refine r_gR X hR fk_X8_316 dX8_right_6 hw (fun x1 hw => ?_)
  refine r_ifnonnull (tgt := 20) X dX8_right_9 (by decide) (fun c2 => ?_) (fun c2 => ?_)
  · have hw := hw.1 c2
    refine r_aload_n X dX8_right_20 rfl (lv_at hl 0 rfl) ?_
    refine r_aload_n X dX8_right_21 rfl (lv_at hl 0 rfl) ?_
    refine r_aload_n X dX8_right_22 rfl (lv_at hl 0 rfl) ?_
    refine r_gR X hR fk_X8_17 dX8_right_23 hw (fun x3 hw => ?_)
    refine r_callI X hR (c_V (ci := 8) (q := (RX8, TX8, 32)) X hR hl.1 (c_X8_rightIn l g v0 x3) (lw_V q1977 q1979 qs83 q125 q1980) rfl rfl mh_X8_rightIn rfl (by decide) (by decide) rfl (cat4 (Nat.le_of_ble_eq_true rfl)) dX8_right_26 hw) (fun x4 h H locs cells slots hR hw => ?_)
    refine r_callI X hR (c_V (ci := 8) (q := (RX8, TX8, 32)) X hR hl.1 (c_X8_good l g v0 x4) (lw_V q1929 q1931 qs78 q125 q1932) rfl rfl mh_X8_good rfl (by decide) (by decide) rfl (cat4 (Nat.le_of_ble_eq_true rfl)) dX8_right_29 hw) (fun x5 h H locs cells slots hR hw => ?_)
    exact r_iret X hR dX8_right_32 hw
  · have hw := hw.2 c2
    refine r_aload_n X dX8_right_12 rfl (lv_at hl 0 rfl) ?_
    refine lv_iconst (v := 1) hx hb dX8_right_13 (by decide) ?_
    refine r_callI X hR (c_V (ci := 8) (q := (RX8, TX8, 32)) X hR hl.1 (c_X8_refused l g v0 1) (lw_V q1657 q1659 qs50 q125 q1660) rfl rfl mh_X8_refused rfl (by decide) (by decide) rfl (cat4 (Nat.le_of_ble_eq_true rfl)) dX8_right_14 hw) (fun x6 h H locs cells slots hR hw => ?_)
    refine lv_goto (tgt := 32) hx hb dX8_right_17 (by decide) ?_
    exact r_iret X hR dX8_right_32 hw
theorem t_X8_richest_J64 {p : Program} {l : Launch} {e : Env} {s : State} {m : MethodId} {args : Array Value} {below : List Frame} {meth : Method} {c : Code} {g : GT} {h0 : AH} {v0 : Option Nat} {v1 : Int32} {v2 : Int32} {v3 : Int32} {K : Int32 → AH → Prop} {E : Nat → AH → Prop} {L25 : Int32 → Int32 → Int32 → AH → Prop} {h : AH} {H : Heap} {locs : List Loc} {cells slots : Nat} {ls : Array Slot} (X : Cx g h0 p s m args meth c RX8 cX8_richest 4 (Option.some Jvm.ClassFile.FieldType.int)) (k25 : ∀ {v1' : Int32} {v2' : Int32} {v3' : Int32} {h : AH} {H : Heap} {locs : List Loc} {cells slots : Nat} {ls : Array Slot}, L25 v1' v2' v3' h → HS g s h H locs → lv_has ls 4 [(0, va_rf v0), (1, .int (v1')), (2, .int (v2')), (3, .int (v3'))] → W p l e (RM 2 h0) s m args below meth c H locs cells slots (MQT below g (qI K) E args s h0) (F0 m 25 ls [])) (hw : w_X8_richest_J64 g v0 v1 v2 v3 K E L25 h) (hR : HS g s h H locs) (hl : lv_has ls 4 [(0, va_rf v0), (1, .int v1), (2, .int v2), (3, .int v3)]) : W p l e (RM 2 h0) s m args below meth c H locs cells slots (MQT below g (qI K) E args s h0) (F0 m 64 ls []) := by
  have hx := X.hx
  have hb := X.hb
  unfold w_X8_richest_J64 at hw
  refine r_iinc X (k := 3) (v := (v3 + 1)) (lv' := fun x12 => [(3, .int x12), (0, va_rf v0), (1, .int v1), (2, .int v2)]) dX8_richest_64 hl rfl rfl (by decide) hw (fun _ => rfl) (fun x12 hw ls hl => ?_)
  refine lv_goto (tgt := 25) hx hb dX8_richest_67 (by decide) ?_
  exact k25 hw hR (lv_sub hl [1, 2, 3, 0] rfl)
theorem t_X8_richest_L25 {p : Program} {l : Launch} {e : Env} {s : State} {m : MethodId} {args : Array Value} {below : List Frame} {meth : Method} {c : Code} {g : GT} {h0 : AH} {v0 : Option Nat} {K : Int32 → AH → Prop} {E : Nat → AH → Prop} (X : Cx g h0 p s m args meth c RX8 cX8_richest 4 (Option.some Jvm.ClassFile.FieldType.int))  : ∀ (n : Nat) {v1 : Int32} {v2 : Int32} {v3 : Int32} {h : AH} {H : Heap} {locs : List Loc} {cells slots : Nat} {ls : Array Slot}, LpN3 (w_X8_richest_L25 g v0 K E) n v1 v2 v3 h → HS g s h H locs → lv_has ls 4 [(0, va_rf v0), (1, .int v1), (2, .int v2), (3, .int v3)] → W p l e (RM 2 h0) s m args below meth c H locs cells slots (MQT below g (qI K) E args s h0) (F0 m 25 ls []) := by
  have hx := X.hx
  have hb := X.hb
  intro n
  induction n with
  | zero =>
    intro v1 v2 v3 h H locs cells slots ls hw
    exact hw.elim
  | succ n k25 =>
    intro v1 v2 v3 h H locs cells slots ls hw hR hl
    have hw : w_X8_richest_L25 g v0 K E (LpN3 (w_X8_richest_L25 g v0 K E) n) v1 v2 v3 h := hw
    unfold w_X8_richest_L25 at hw
    refine lv_iload_n hx hb dX8_richest_25 rfl (lv_at hl 3 rfl) ?_
    refine r_aload_n X dX8_richest_26 rfl (lv_at hl 0 rfl) ?_
    refine r_gR X hR fk_X8_316 dX8_richest_27 hw (fun x3 hw => ?_)
    refine r_gI X hR fk_X8_191 dX8_richest_30 hw (fun x4 hw => ?_)
    refine lv_icmp_ge (tgt := 70) hx hb dX8_richest_33 (by decide) (fun c5 => ?_) (fun c5 => ?_)
    · have hw := hw.1 c5
      refine r_aload_n X dX8_richest_70 rfl (lv_at hl 0 rfl) ?_
      refine lv_iload_n hx hb dX8_richest_71 rfl (lv_at hl 1 rfl) ?_
      refine r_callI X hR (c_V (ci := 8) (q := (RX8, TX8, 32)) X hR hl.1 (c_X8_good l g v0 v1) (lw_V q1929 q1931 qs78 q125 q1932) rfl rfl mh_X8_good rfl (by decide) (by decide) rfl (cat4 (Nat.le_of_ble_eq_true rfl)) dX8_richest_72 hw) (fun x6 h H locs cells slots hR hw => ?_)
      exact r_iret X hR dX8_richest_75 hw
    · have hw := hw.2 c5
      refine r_aload_n X dX8_richest_36 rfl (lv_at hl 0 rfl) ?_
      refine r_aload_n X dX8_richest_37 rfl (lv_at hl 0 rfl) ?_
      refine r_gR X hR fk_X8_17 dX8_richest_38 hw (fun x7 hw => ?_)
      refine lv_iload_n hx hb dX8_richest_41 rfl (lv_at hl 3 rfl) ?_
      refine r_callI X hR (c_V (ci := 8) (q := (RX8, TX8, 32)) X hR hl.1 (c_X8_landsIn l g v0 x7 v3) (lw_V q1961 q1963 qs82 q125 q1964) rfl rfl mh_X8_landsIn rfl (by decide) (by decide) rfl (cat4 (Nat.le_of_ble_eq_true rfl)) dX8_richest_42 hw) (fun x8 h H locs cells slots hR hw => ?_)
      refine lv_iload_n hx hb dX8_richest_45 rfl (lv_at hl 2 rfl) ?_
      refine lv_icmp_gt (tgt := 52) hx hb dX8_richest_46 (by decide) (fun c9 => ?_) (fun c9 => ?_)
      · have hw := hw.1 c9
        refine r_aload_n X dX8_richest_52 rfl (lv_at hl 0 rfl) ?_
        refine r_aload_n X dX8_richest_53 rfl (lv_at hl 0 rfl) ?_
        refine r_gR X hR fk_X8_17 dX8_richest_54 hw (fun x10 hw => ?_)
        refine lv_iload_n hx hb dX8_richest_57 rfl (lv_at hl 3 rfl) ?_
        refine r_callI X hR (c_V (ci := 8) (q := (RX8, TX8, 32)) X hR hl.1 (c_X8_landsIn l g v0 x10 v3) (lw_V q1961 q1963 qs82 q125 q1964) rfl rfl mh_X8_landsIn rfl (by decide) (by decide) rfl (cat4 (Nat.le_of_ble_eq_true rfl)) dX8_richest_58 hw) (fun x11 h H locs cells slots hR hw => ?_)
        refine lv_istore_n (i := 2) (lv' := [(2, .int x11), (0, va_rf v0), (1, .int v1), (3, .int v3)]) hx hb dX8_richest_61 rfl hl (by decide) rfl (fun ls hl => ?_)
        refine lv_iload_n hx hb dX8_richest_62 rfl (lv_at hl 3 rfl) ?_
        refine lv_istore_n (i := 1) (lv' := [(1, .int v3), (2, .int x11), (0, va_rf v0), (3, .int v3)]) hx hb dX8_richest_63 rfl hl (by decide) (by simp [cat_rf, cat_int, cat_long]) (fun ls hl => ?_)
        exact t_X8_richest_J64 X k25 hw hR (lv_sub hl [2, 0, 1, 3] rfl)
      · have hw := hw.2 c9
        refine lv_goto (tgt := 64) hx hb dX8_richest_49 (by decide) ?_
        exact t_X8_richest_J64 X k25 hw hR (lv_sub hl [0, 1, 2, 3] rfl)
theorem c_X8_richest (l : Launch) (g : GT) (v0 : Option Nat) : CT qI l yX8_richest (ws_ yX8_richest cX8_richest 4 (Option.some Jvm.ClassFile.FieldType.int)) 2 g [va_rf v0] (fun K E h => w_X8_richest g v0 K E h) := by
  refine CT_of (lv := [(0, va_rf v0)]) (by decide +kernel) (by simp [lg_sl, cat_rf, cat_int, cat_long]) (by simp [lv_args, cat_rf, cat_int, cat_long]) (fun h0 K E p e s m args below meth c H locs cells slots ls X hxt hmn hw hR hl => ?_)
  have hx := X.hx
  have hb := X.hb
  unfold w_X8_richest at hw
  refine r_aload_n X dX8_richest_0 rfl (lv_at hl 0 rfl) ?_
  refine lv_iconst (v := 0) hx hb dX8_richest_1 (by decide) ?_
  refine r_put X hR fp_X8_45 (Or.inl fn_X8_45) (nf_int _) dX8_richest_2 hw (fun H locs h hR hw => ?_)
  refine r_aload_n X dX8_richest_5 rfl (lv_at hl 0 rfl) ?_
  refine r_gR X hR fk_X8_316 dX8_richest_6 hw (fun x1 hw => ?_)
  refine r_ifnonnull (tgt := 18) X dX8_richest_9 (by decide) (fun c2 => ?_) (fun c2 => ?_)
  · have hw := hw.1 c2
    refine lv_bipush (v := (-2)) hx hb dX8_richest_18 (by decide) ?_
    refine lv_istore_n (i := 1) (lv' := [(1, .int (-2)), (0, va_rf v0)]) hx hb dX8_richest_20 rfl hl (by decide) (by simp [cat_rf, cat_int, cat_long]) (fun ls hl => ?_)
    refine lv_iconst (v := 0) hx hb dX8_richest_21 (by decide) ?_
    refine lv_istore_n (i := 2) (lv' := [(2, .int 0), (1, .int (-2)), (0, va_rf v0)]) hx hb dX8_richest_22 rfl hl (by decide) rfl (fun ls hl => ?_)
    refine lv_iconst (v := 0) hx hb dX8_richest_23 (by decide) ?_
    refine lv_istore_n (i := 3) (lv' := [(3, .int 0), (2, .int 0), (1, .int (-2)), (0, va_rf v0)]) hx hb dX8_richest_24 rfl hl (by decide) rfl (fun ls hl => ?_)
    obtain ⟨n, hw⟩ := hw
    exact t_X8_richest_L25 X  n hw hR (lv_sub hl [3, 2, 1, 0] rfl)
  · have hw := hw.2 c2
    refine r_aload_n X dX8_richest_12 rfl (lv_at hl 0 rfl) ?_
    refine lv_iconst (v := 1) hx hb dX8_richest_13 (by decide) ?_
    refine r_callI X hR (c_V (ci := 8) (q := (RX8, TX8, 32)) X hR hl.1 (c_X8_refused l g v0 1) (lw_V q1657 q1659 qs50 q125 q1660) rfl rfl mh_X8_refused rfl (by decide) (by decide) rfl (cat4 (Nat.le_of_ble_eq_true rfl)) dX8_richest_14 hw) (fun x13 h H locs cells slots hR hw => ?_)
    exact r_iret X hR dX8_richest_17 hw
theorem c_X8_changes (l : Launch) (g : GT) (v0 : Option Nat) (v1 : Int32) (v2 : Int32) : CT qV l yX8_changes (ws_ yX8_changes cX8_changes 4 none) 1 g [va_rf v0, .int v1, .int v2] (fun K E h => w_X8_changes g v0 v1 v2 K E h) := by
  refine CT_of (lv := [(0, va_rf v0), (1, .int v1), (2, .int v2)]) (by decide +kernel) (by simp [lg_sl, cat_rf, cat_int, cat_long]) (by simp [lv_args, cat_rf, cat_int, cat_long]) (fun h0 K E p e s m args below meth c H locs cells slots ls X hxt hmn hw hR hl => ?_)
  have hx := X.hx
  have hb := X.hb
  unfold w_X8_changes at hw
  refine r_aload_n X dX8_changes_0 rfl (lv_at hl 0 rfl) ?_
  refine lv_iconst (v := 0) hx hb dX8_changes_1 (by decide) ?_
  refine lv_iload_n hx hb dX8_changes_2 rfl (lv_at hl 1 rfl) ?_
  refine lv_iadd hx hb dX8_changes_3 ?_
  refine r_iald X hR dX8_changes_4 hw (fun x1 hw => ?_)
  refine lv_istore_n (i := 3) (lv' := [(3, .int x1), (0, va_rf v0), (1, .int v1), (2, .int v2)]) hx hb dX8_changes_5 rfl hl (by decide) rfl (fun ls hl => ?_)
  refine r_aload_n X dX8_changes_6 rfl (lv_at hl 1 rfl) ?_
  refine lv_iconst (v := 0) hx hb dX8_changes_7 (by decide) ?_
  refine lv_iload_n hx hb dX8_changes_8 rfl (lv_at hl 2 rfl) ?_
  refine lv_iadd hx hb dX8_changes_9 ?_
  refine r_aload_n X dX8_changes_10 rfl (lv_at hl 1 rfl) ?_
  refine lv_iconst (v := 0) hx hb dX8_changes_11 (by decide) ?_
  refine lv_iload_n hx hb dX8_changes_12 rfl (lv_at hl 3 rfl) ?_
  refine lv_iadd hx hb dX8_changes_13 ?_
  refine r_iald X hR dX8_changes_14 hw (fun x2 hw => ?_)
  refine r_iast X hR dX8_changes_15 hw (fun H locs h hR hw => ?_)
  refine r_aload_n X dX8_changes_16 rfl (lv_at hl 1 rfl) ?_
  refine lv_iconst (v := 0) hx hb dX8_changes_17 (by decide) ?_
  refine lv_iload_n hx hb dX8_changes_18 rfl (lv_at hl 3 rfl) ?_
  refine lv_iadd hx hb dX8_changes_19 ?_
  refine lv_iload_n hx hb dX8_changes_20 rfl (lv_at hl 0 rfl) ?_
  refine r_iast X hR dX8_changes_21 hw (fun H locs h hR hw => ?_)
  exact r_vret X hR rfl dX8_changes_22 hw
theorem t_X8_happens_J134 {p : Program} {l : Launch} {e : Env} {s : State} {m : MethodId} {args : Array Value} {below : List Frame} {meth : Method} {c : Code} {g : GT} {h0 : AH} {v0 : Option Nat} {v1 : Int32} {v2 : Int32} {v3 : Int32} {K : Int32 → AH → Prop} {E : Nat → AH → Prop} {L4 : Int32 → Int32 → AH → Prop} {h : AH} {H : Heap} {locs : List Loc} {cells slots : Nat} {ls : Array Slot} (X : Cx g h0 p s m args meth c RX8 cX8_happens 5 (Option.some Jvm.ClassFile.FieldType.boolean)) (k4 : ∀ {v2' : Int32} {v3' : Int32} {h : AH} {H : Heap} {locs : List Loc} {cells slots : Nat} {ls : Array Slot}, L4 v2' v3' h → HS g s h H locs → lv_has ls 5 [(0, va_rf v0), (1, .int v1), (2, .int (v2')), (3, .int (v3'))] → W p l e (RM 2 h0) s m args below meth c H locs cells slots (MQT below g (qI K) E args s h0) (F0 m 4 ls [])) (hw : w_X8_happens_J134 g v0 v1 v2 v3 K E L4 h) (hR : HS g s h H locs) (hl : lv_has ls 5 [(0, va_rf v0), (1, .int v1), (2, .int v2), (3, .int v3)]) : W p l e (RM 2 h0) s m args below meth c H locs cells slots (MQT below g (qI K) E args s h0) (F0 m 134 ls []) := by
  have hx := X.hx
  have hb := X.hb
  unfold w_X8_happens_J134 at hw
  refine r_iinc X (k := 3) (v := (v3 + 1)) (lv' := fun x19 => [(3, .int x19), (0, va_rf v0), (1, .int v1), (2, .int v2)]) dX8_happens_134 hl rfl rfl (by decide) hw (fun _ => rfl) (fun x19 hw ls hl => ?_)
  refine lv_goto (tgt := 4) hx hb dX8_happens_137 (by decide) ?_
  exact k4 hw hR (lv_sub hl [1, 2, 3, 0] rfl)
theorem t_X8_happens_L4 {p : Program} {l : Launch} {e : Env} {s : State} {m : MethodId} {args : Array Value} {below : List Frame} {meth : Method} {c : Code} {g : GT} {h0 : AH} {v0 : Option Nat} {v1 : Int32} {K : Int32 → AH → Prop} {E : Nat → AH → Prop} (X : Cx g h0 p s m args meth c RX8 cX8_happens 5 (Option.some Jvm.ClassFile.FieldType.boolean))  : ∀ (n : Nat) {v2 : Int32} {v3 : Int32} {h : AH} {H : Heap} {locs : List Loc} {cells slots : Nat} {ls : Array Slot}, LpN2 (w_X8_happens_L4 g v0 v1 K E) n v2 v3 h → HS g s h H locs → lv_has ls 5 [(0, va_rf v0), (1, .int v1), (2, .int v2), (3, .int v3)] → W p l e (RM 2 h0) s m args below meth c H locs cells slots (MQT below g (qI K) E args s h0) (F0 m 4 ls []) := by
  have hx := X.hx
  have hb := X.hb
  intro n
  induction n with
  | zero =>
    intro v2 v3 h H locs cells slots ls hw
    exact hw.elim
  | succ n k4 =>
    intro v2 v3 h H locs cells slots ls hw hR hl
    have hw : w_X8_happens_L4 g v0 v1 K E (LpN2 (w_X8_happens_L4 g v0 v1 K E) n) v2 v3 h := hw
    unfold w_X8_happens_L4 at hw
    refine lv_iload_n hx hb dX8_happens_4 rfl (lv_at hl 3 rfl) ?_
    refine r_aload_n X dX8_happens_5 rfl (lv_at hl 0 rfl) ?_
    refine r_gR X hR fk_X8_316 dX8_happens_6 hw (fun x1 hw => ?_)
    refine r_gI X hR fk_X8_279 dX8_happens_9 hw (fun x2 hw => ?_)
    refine lv_icmp_ge (tgt := 140) hx hb dX8_happens_12 (by decide) (fun c3 => ?_) (fun c3 => ?_)
    · have hw := hw.1 c3
      refine lv_iload_n hx hb dX8_happens_140 rfl (lv_at hl 2 rfl) ?_
      exact r_zret X hR dX8_happens_141 hw
    · have hw := hw.2 c3
      refine r_aload_n X dX8_happens_15 rfl (lv_at hl 0 rfl) ?_
      refine r_gR X hR fk_X8_316 dX8_happens_16 hw (fun x4 hw => ?_)
      refine r_gR X hR fk_X8_282 dX8_happens_19 hw (fun x5 hw => ?_)
      refine lv_iload_n hx hb dX8_happens_22 rfl (lv_at hl 3 rfl) ?_
      refine r_iald X hR dX8_happens_23 hw (fun x6 hw => ?_)
      refine lv_iload_n hx hb dX8_happens_24 rfl (lv_at hl 1 rfl) ?_
      refine lv_icmp_eq (tgt := 31) hx hb dX8_happens_25 (by decide) (fun c7 => ?_) (fun c7 => ?_)
      · have hw := hw.1 c7
        refine r_aload_n X dX8_happens_31 rfl (lv_at hl 0 rfl) ?_
        refine r_gR X hR fk_X8_316 dX8_happens_32 hw (fun x8 hw => ?_)
        refine r_gR X hR fk_X8_289 dX8_happens_35 hw (fun x9 hw => ?_)
        refine lv_iload_n hx hb dX8_happens_38 rfl (lv_at hl 3 rfl) ?_
        refine r_iald X hR dX8_happens_39 hw (fun x10 hw => ?_)
        refine lv_istore (i := 4) (lv' := [(4, .int x10), (0, va_rf v0), (1, .int v1), (2, .int v2), (3, .int v3)]) hx hb dX8_happens_40 hl (by decide) rfl (fun ls hl => ?_)
        refine r_aload_n X dX8_happens_42 rfl (lv_at hl 1 rfl) ?_
        refine r_gR X hR fk_X8_316 dX8_happens_43 hw (fun x11 hw => ?_)
        refine r_gR X hR fk_X8_286 dX8_happens_46 hw (fun x12 hw => ?_)
        refine lv_iload_n hx hb dX8_happens_49 rfl (lv_at hl 4 rfl) ?_
        refine r_iald X hR dX8_happens_50 hw (fun x13 hw => ?_)
        by_cases c14_0 : x13 = 0
        · have hw := swT_at hw 0 rfl c14_0
          rw [c14_0]
          refine lv_tableIn (tgt := 76) hx hb dX8_happens_51 (by decide) (by decide) rfl (by decide) ?_
          refine r_aload_n X dX8_happens_76 rfl (lv_at hl 1 rfl) ?_
          refine r_gR X hR fk_X8_21 dX8_happens_77 hw (fun x15 hw => ?_)
          refine lv_iconst (v := 0) hx hb dX8_happens_80 (by decide) ?_
          refine lv_iload hx hb dX8_happens_81 (lv_at hl 0 rfl) ?_
          refine lv_iadd hx hb dX8_happens_83 ?_
          refine r_aload_n X dX8_happens_84 rfl (lv_at hl 1 rfl) ?_
          refine r_gR X hR fk_X8_316 dX8_happens_85 hw (fun x16 hw => ?_)
          refine r_gR X hR fk_X8_292 dX8_happens_88 hw (fun x17 hw => ?_)
          refine lv_iload_n hx hb dX8_happens_91 rfl (lv_at hl 4 rfl) ?_
          refine r_iald X hR dX8_happens_92 hw (fun x18 hw => ?_)
          refine r_iast X hR dX8_happens_93 hw (fun H locs h hR hw => ?_)
          refine lv_goto (tgt := 134) hx hb dX8_happens_94 (by decide) ?_
          exact t_X8_happens_J134 X k4 hw hR (lv_sub hl [1, 2, 3, 4] rfl)
        by_cases c14_1 : x13 = 1
        · have hw := swT_at hw 1 rfl c14_1
          rw [c14_1]
          refine lv_tableIn (tgt := 97) hx hb dX8_happens_51 (by decide) (by decide) rfl (by decide) ?_
          refine r_aload_n X dX8_happens_97 rfl (lv_at hl 1 rfl) ?_
          refine r_gR X hR fk_X8_21 dX8_happens_98 hw (fun x20 hw => ?_)
          refine lv_iconst (v := 0) hx hb dX8_happens_101 (by decide) ?_
          refine lv_iload hx hb dX8_happens_102 (lv_at hl 0 rfl) ?_
          refine lv_iadd hx hb dX8_happens_104 ?_
          refine lv_bipush (v := (-2)) hx hb dX8_happens_105 (by decide) ?_
          refine r_iast X hR dX8_happens_107 hw (fun H locs h hR hw => ?_)
          refine lv_goto (tgt := 134) hx hb dX8_happens_108 (by decide) ?_
          exact t_X8_happens_J134 X k4 hw hR (lv_sub hl [1, 2, 3, 4] rfl)
        by_cases c14_2 : x13 = 2
        · have hw := swT_at hw 2 rfl c14_2
          rw [c14_2]
          refine lv_tableIn (tgt := 111) hx hb dX8_happens_51 (by decide) (by decide) rfl (by decide) ?_
          refine r_aload_n X dX8_happens_111 rfl (lv_at hl 1 rfl) ?_
          refine r_gR X hR fk_X8_21 dX8_happens_112 hw (fun x21 hw => ?_)
          refine lv_iload hx hb dX8_happens_115 (lv_at hl 0 rfl) ?_
          refine r_aload_n X dX8_happens_117 rfl (lv_at hl 1 rfl) ?_
          refine r_gR X hR fk_X8_316 dX8_happens_118 hw (fun x22 hw => ?_)
          refine r_gR X hR fk_X8_292 dX8_happens_121 hw (fun x23 hw => ?_)
          refine lv_iload_n hx hb dX8_happens_124 rfl (lv_at hl 4 rfl) ?_
          refine r_iald X hR dX8_happens_125 hw (fun x24 hw => ?_)
          refine r_callV X hR (c_S X hR hl.1 (c_X8_changes l g x21 x10 x24) (lw_S q2005 q2006 q125 q2007) mh_X8_changes rfl (by decide) (by decide) rfl (cat4 (Nat.le_of_ble_eq_true rfl)) dX8_happens_126 hw) (fun _ h H locs cells slots hR hw => ?_)
          refine lv_goto (tgt := 134) hx hb dX8_happens_129 (by decide) ?_
          exact t_X8_happens_J134 X k4 hw hR (lv_sub hl [1, 2, 3, 4] rfl)
        have hw := hw.2 (List.forall_mem_cons.mpr ⟨c14_0, (List.forall_mem_cons.mpr ⟨c14_1, (List.forall_mem_cons.mpr ⟨c14_2, (fun _ h => absurd h List.not_mem_nil)⟩)⟩)⟩)
        refine lv_tableOut (tgt := 132) hx hb dX8_happens_51 (sw_out (x := x13) (lo := 0) (n := 3) (by decide) (lt_s (lt_s (lt_s lt_0 c14_0) c14_1) c14_2)) (by decide) ?_
        refine lv_iconst (v := 1) hx hb dX8_happens_132 (by decide) ?_
        refine lv_istore_n (i := 2) (lv' := [(2, .int 1), (4, .int x10), (0, va_rf v0), (1, .int v1), (3, .int v3)]) hx hb dX8_happens_133 rfl hl (by decide) rfl (fun ls hl => ?_)
        exact t_X8_happens_J134 X k4 hw hR (lv_sub hl [2, 3, 0, 4] rfl)
      · have hw := hw.2 c7
        refine lv_goto (tgt := 134) hx hb dX8_happens_28 (by decide) ?_
        exact t_X8_happens_J134 X k4 hw hR (lv_sub hl [0, 1, 2, 3] rfl)
theorem c_X8_happens (l : Launch) (g : GT) (v0 : Option Nat) (v1 : Int32) : CT qI l yX8_happens (ws_ yX8_happens cX8_happens 5 (Option.some Jvm.ClassFile.FieldType.boolean)) 2 g [va_rf v0, .int v1] (fun K E h => w_X8_happens g v0 v1 K E h) := by
  refine CT_of (lv := [(0, va_rf v0), (1, .int v1)]) (by decide +kernel) (by simp [lg_sl, cat_rf, cat_int, cat_long]) (by simp [lv_args, cat_rf, cat_int, cat_long]) (fun h0 K E p e s m args below meth c H locs cells slots ls X hxt hmn hw hR hl => ?_)
  have hx := X.hx
  have hb := X.hb
  unfold w_X8_happens at hw
  refine lv_iconst (v := 0) hx hb dX8_happens_0 (by decide) ?_
  refine lv_istore_n (i := 2) (lv' := [(2, .int 0), (0, va_rf v0), (1, .int v1)]) hx hb dX8_happens_1 rfl hl (by decide) rfl (fun ls hl => ?_)
  refine lv_iconst (v := 0) hx hb dX8_happens_2 (by decide) ?_
  refine lv_istore_n (i := 3) (lv' := [(3, .int 0), (2, .int 0), (0, va_rf v0), (1, .int v1)]) hx hb dX8_happens_3 rfl hl (by decide) rfl (fun ls hl => ?_)
  obtain ⟨n, hw⟩ := hw
  exact t_X8_happens_L4 X  n hw hR (lv_sub hl [2, 3, 1, 0] rfl)
theorem t_X8_lapses_J32 {p : Program} {l : Launch} {e : Env} {s : State} {m : MethodId} {args : Array Value} {below : List Frame} {meth : Method} {c : Code} {g : GT} {h0 : AH} {v0 : Option Nat} {v1 : Option Nat} {v2 : Int32} {K : Unit → AH → Prop} {E : Nat → AH → Prop} {L2 : Int32 → AH → Prop} {h : AH} {H : Heap} {locs : List Loc} {cells slots : Nat} {ls : Array Slot} (X : Cx g h0 p s m args meth c RX8 cX8_lapses 3 none) (k2 : ∀ {v2' : Int32} {h : AH} {H : Heap} {locs : List Loc} {cells slots : Nat} {ls : Array Slot}, L2 v2' h → HS g s h H locs → lv_has ls 3 [(0, va_rf v0), (1, va_rf v1), (2, .int (v2'))] → W p l e (RM 1 h0) s m args below meth c H locs cells slots (MQT below g (qV K) E args s h0) (F0 m 2 ls [])) (hw : w_X8_lapses_J32 g v0 v1 v2 K E L2 h) (hR : HS g s h H locs) (hl : lv_has ls 3 [(0, va_rf v0), (1, va_rf v1), (2, .int v2)]) : W p l e (RM 1 h0) s m args below meth c H locs cells slots (MQT below g (qV K) E args s h0) (F0 m 32 ls []) := by
  have hx := X.hx
  have hb := X.hb
  unfold w_X8_lapses_J32 at hw
  refine r_iinc X (k := 2) (v := (v2 + 1)) (lv' := fun x8 => [(2, .int x8), (0, va_rf v0), (1, va_rf v1)]) dX8_lapses_32 hl rfl rfl (by decide) hw (fun _ => by simp [cat_rf, cat_int, cat_long]) (fun x8 hw ls hl => ?_)
  refine lv_goto (tgt := 2) hx hb dX8_lapses_35 (by decide) ?_
  exact k2 hw hR (lv_sub hl [1, 2, 0] rfl)
theorem t_X8_lapses_L2 {p : Program} {l : Launch} {e : Env} {s : State} {m : MethodId} {args : Array Value} {below : List Frame} {meth : Method} {c : Code} {g : GT} {h0 : AH} {v0 : Option Nat} {v1 : Option Nat} {K : Unit → AH → Prop} {E : Nat → AH → Prop} (X : Cx g h0 p s m args meth c RX8 cX8_lapses 3 none)  : ∀ (n : Nat) {v2 : Int32} {h : AH} {H : Heap} {locs : List Loc} {cells slots : Nat} {ls : Array Slot}, LpN1 (w_X8_lapses_L2 g v0 v1 K E) n v2 h → HS g s h H locs → lv_has ls 3 [(0, va_rf v0), (1, va_rf v1), (2, .int v2)] → W p l e (RM 1 h0) s m args below meth c H locs cells slots (MQT below g (qV K) E args s h0) (F0 m 2 ls []) := by
  have hx := X.hx
  have hb := X.hb
  intro n
  induction n with
  | zero =>
    intro v2 h H locs cells slots ls hw
    exact hw.elim
  | succ n k2 =>
    intro v2 h H locs cells slots ls hw hR hl
    have hw : w_X8_lapses_L2 g v0 v1 K E (LpN1 (w_X8_lapses_L2 g v0 v1 K E) n) v2 h := hw
    unfold w_X8_lapses_L2 at hw
    refine lv_iload_n hx hb dX8_lapses_2 rfl (lv_at hl 2 rfl) ?_
    refine r_aload_n X dX8_lapses_3 rfl (lv_at hl 0 rfl) ?_
    refine r_gR X hR fk_X8_316 dX8_lapses_4 hw (fun x1 hw => ?_)
    refine r_gI X hR fk_X8_194 dX8_lapses_7 hw (fun x2 hw => ?_)
    refine lv_icmp_ge (tgt := 38) hx hb dX8_lapses_10 (by decide) (fun c3 => ?_) (fun c3 => ?_)
    · have hw := hw.1 c3
      exact r_vret X hR rfl dX8_lapses_38 hw
    · have hw := hw.2 c3
      refine r_aload_n X dX8_lapses_13 rfl (lv_at hl 0 rfl) ?_
      refine r_gR X hR fk_X8_316 dX8_lapses_14 hw (fun x4 hw => ?_)
      refine r_gR X hR fk_X8_270 dX8_lapses_17 hw (fun x5 hw => ?_)
      refine lv_iload_n hx hb dX8_lapses_20 rfl (lv_at hl 2 rfl) ?_
      refine r_iald X hR dX8_lapses_21 hw (fun x6 hw => ?_)
      refine lv_if_eq (tgt := 32) hx hb dX8_lapses_22 (by decide) (fun c7 => ?_) (fun c7 => ?_)
      · have hw := hw.1 c7
        exact t_X8_lapses_J32 X k2 hw hR (lv_sub hl [0, 1, 2] rfl)
      · have hw := hw.2 c7
        refine r_aload_n X dX8_lapses_25 rfl (lv_at hl 1 rfl) ?_
        refine lv_iconst (v := 5) hx hb dX8_lapses_26 (by decide) ?_
        refine lv_iload_n hx hb dX8_lapses_27 rfl (lv_at hl 2 rfl) ?_
        refine lv_iadd hx hb dX8_lapses_28 ?_
        refine lv_bipush (v := (-2)) hx hb dX8_lapses_29 (by decide) ?_
        refine r_iast X hR dX8_lapses_31 hw (fun H locs h hR hw => ?_)
        exact t_X8_lapses_J32 X k2 hw hR (lv_sub hl [0, 1, 2] rfl)
theorem c_X8_lapses (l : Launch) (g : GT) (v0 : Option Nat) (v1 : Option Nat) : CT qV l yX8_lapses (ws_ yX8_lapses cX8_lapses 3 none) 1 g [va_rf v0, va_rf v1] (fun K E h => w_X8_lapses g v0 v1 K E h) := by
  refine CT_of (lv := [(0, va_rf v0), (1, va_rf v1)]) (by decide +kernel) (by simp [lg_sl, cat_rf, cat_int, cat_long]) (by simp [lv_args, cat_rf, cat_int, cat_long]) (fun h0 K E p e s m args below meth c H locs cells slots ls X hxt hmn hw hR hl => ?_)
  have hx := X.hx
  have hb := X.hb
  unfold w_X8_lapses at hw
  refine lv_iconst (v := 0) hx hb dX8_lapses_0 (by decide) ?_
  refine lv_istore_n (i := 2) (lv' := [(2, .int 0), (0, va_rf v0), (1, va_rf v1)]) hx hb dX8_lapses_1 rfl hl (by decide) (by simp [cat_rf, cat_int, cat_long]) (fun ls hl => ?_)
  obtain ⟨n, hw⟩ := hw
  exact t_X8_lapses_L2 X  n hw hR (lv_sub hl [1, 2, 0] rfl)
theorem t_X8_bits_L4 {p : Program} {l : Launch} {e : Env} {s : State} {m : MethodId} {args : Array Value} {below : List Frame} {meth : Method} {c : Code} {g : GT} {h0 : AH} {K : Int32 → AH → Prop} {E : Nat → AH → Prop} (X : Cx g h0 p s m args meth c RX8 cX8_bits 3 (Option.some Jvm.ClassFile.FieldType.int))  : ∀ (n : Nat) {v1 : Int32} {v2 : Int32} {h : AH} {H : Heap} {locs : List Loc} {cells slots : Nat} {ls : Array Slot}, LpN2 (w_X8_bits_L4 g  K E) n v1 v2 h → HS g s h H locs → lv_has ls 3 [(1, .int v1), (2, .int v2)] → W p l e (RM 1 h0) s m args below meth c H locs cells slots (MQT below g (qI K) E args s h0) (F0 m 4 ls []) := by
  have hx := X.hx
  have hb := X.hb
  intro n
  induction n with
  | zero =>
    intro v1 v2 h H locs cells slots ls hw
    exact hw.elim
  | succ n k4 =>
    intro v1 v2 h H locs cells slots ls hw hR hl
    have hw : w_X8_bits_L4 g  K E (LpN2 (w_X8_bits_L4 g  K E) n) v1 v2 h := hw
    unfold w_X8_bits_L4 at hw
    refine lv_iload_n hx hb dX8_bits_4 rfl (lv_at hl 1 rfl) ?_
    refine lv_if_eq (tgt := 20) hx hb dX8_bits_5 (by decide) (fun c1 => ?_) (fun c1 => ?_)
    · have hw := hw.1 c1
      refine lv_iload_n hx hb dX8_bits_20 rfl (lv_at hl 0 rfl) ?_
      exact r_iret X hR dX8_bits_21 hw
    · have hw := hw.2 c1
      refine r_iinc X (k := 0) (v := (v1 + 1)) (lv' := fun x2 => [(1, .int x2), (2, .int v2)]) dX8_bits_8 hl rfl rfl (by decide) hw (fun _ => rfl) (fun x2 hw ls hl => ?_)
      refine lv_iload_n hx hb dX8_bits_11 rfl (lv_at hl 1 rfl) ?_
      refine lv_iload_n hx hb dX8_bits_12 rfl (lv_at hl 1 rfl) ?_
      refine lv_iconst (v := 1) hx hb dX8_bits_13 (by decide) ?_
      refine lv_isub hx hb dX8_bits_14 ?_
      refine lv_iand hx hb dX8_bits_15 ?_
      refine r_nmI hw (fun x3 hw => ?_)
      refine lv_istore_n (i := 2) (lv' := [(2, .int x3), (1, .int x2)]) hx hb dX8_bits_16 rfl hl (by decide) rfl (fun ls hl => ?_)
      refine lv_goto (tgt := 4) hx hb dX8_bits_17 (by decide) ?_
      exact k4 hw hR (lv_sub hl [1, 0] rfl)
theorem c_X8_bits (l : Launch) (g : GT) (v0 : Int32) : CT qI l yX8_bits (ws_ yX8_bits cX8_bits 3 (Option.some Jvm.ClassFile.FieldType.int)) 1 g [.int v0] (fun K E h => w_X8_bits g v0 K E h) := by
  refine CT_of (lv := [(0, .int v0)]) (by decide +kernel) (by simp [lg_sl, cat_rf, cat_int, cat_long]) (by simp [lv_args, cat_rf, cat_int, cat_long]) (fun h0 K E p e s m args below meth c H locs cells slots ls X hxt hmn hw hR hl => ?_)
  have hx := X.hx
  have hb := X.hb
  unfold w_X8_bits at hw
  refine lv_iconst (v := 0) hx hb dX8_bits_0 (by decide) ?_
  refine lv_istore_n (i := 1) (lv' := [(1, .int 0), (0, .int v0)]) hx hb dX8_bits_1 rfl hl (by decide) rfl (fun ls hl => ?_)
  refine lv_iload_n hx hb dX8_bits_2 rfl (lv_at hl 1 rfl) ?_
  refine lv_istore_n (i := 2) (lv' := [(2, .int v0), (1, .int 0), (0, .int v0)]) hx hb dX8_bits_3 rfl hl (by decide) rfl (fun ls hl => ?_)
  obtain ⟨n, hw⟩ := hw
  exact t_X8_bits_L4 X  n hw hR (lv_sub hl [1, 0] rfl)
theorem t_X8_forgets_J74 {p : Program} {l : Launch} {e : Env} {s : State} {m : MethodId} {args : Array Value} {below : List Frame} {meth : Method} {c : Code} {g : GT} {h0 : AH} {v0 : Option Nat} {v1 : Option Nat} {v2 : Int32} {v3 : Int32} {v4 : Int32} {K : Unit → AH → Prop} {E : Nat → AH → Prop} {L19 : Int32 → Int32 → AH → Prop} {h : AH} {H : Heap} {locs : List Loc} {cells slots : Nat} {ls : Array Slot} (X : Cx g h0 p s m args meth c RX8 cX8_forgets 5 none) (k19 : ∀ {v3' : Int32} {v4' : Int32} {h : AH} {H : Heap} {locs : List Loc} {cells slots : Nat} {ls : Array Slot}, L19 v3' v4' h → HS g s h H locs → lv_has ls 5 [(0, va_rf v0), (1, va_rf v1), (2, .int v2), (3, .int (v3')), (4, .int (v4'))] → W p l e (RM 2 h0) s m args below meth c H locs cells slots (MQT below g (qV K) E args s h0) (F0 m 19 ls [])) (hw : w_X8_forgets_J74 g v0 v1 v2 v3 v4 K E L19 h) (hR : HS g s h H locs) (hl : lv_has ls 5 [(0, va_rf v0), (1, va_rf v1), (2, .int v2), (3, .int v3), (4, .int v4)]) : W p l e (RM 2 h0) s m args below meth c H locs cells slots (MQT below g (qV K) E args s h0) (F0 m 74 ls []) := by
  have hx := X.hx
  have hb := X.hb
  unfold w_X8_forgets_J74 at hw
  refine r_iinc X (k := 4) (v := (v4 + 1)) (lv' := fun x10 => [(4, .int x10), (0, va_rf v0), (1, va_rf v1), (2, .int v2), (3, .int v3)]) dX8_forgets_74 hl rfl rfl (by decide) hw (fun _ => rfl) (fun x10 hw ls hl => ?_)
  refine lv_goto (tgt := 19) hx hb dX8_forgets_77 (by decide) ?_
  exact k19 hw hR (lv_sub hl [1, 2, 3, 4, 0] rfl)
theorem t_X8_forgets_J71 {p : Program} {l : Launch} {e : Env} {s : State} {m : MethodId} {args : Array Value} {below : List Frame} {meth : Method} {c : Code} {g : GT} {h0 : AH} {v0 : Option Nat} {v1 : Option Nat} {v2 : Int32} {v4 : Int32} {K : Unit → AH → Prop} {E : Nat → AH → Prop} {L19 : Int32 → Int32 → AH → Prop} {h : AH} {H : Heap} {locs : List Loc} {cells slots : Nat} {ls : Array Slot} (X : Cx g h0 p s m args meth c RX8 cX8_forgets 5 none) (k19 : ∀ {v3' : Int32} {v4' : Int32} {h : AH} {H : Heap} {locs : List Loc} {cells slots : Nat} {ls : Array Slot}, L19 v3' v4' h → HS g s h H locs → lv_has ls 5 [(0, va_rf v0), (1, va_rf v1), (2, .int v2), (3, .int (v3')), (4, .int (v4'))] → W p l e (RM 2 h0) s m args below meth c H locs cells slots (MQT below g (qV K) E args s h0) (F0 m 19 ls [])) (hw : w_X8_forgets_J71 g v0 v1 v2 v4 K E L19 h) (hR : HS g s h H locs) (hl : lv_has ls 5 [(0, va_rf v0), (1, va_rf v1), (2, .int v2), (4, .int v4)]) : W p l e (RM 2 h0) s m args below meth c H locs cells slots (MQT below g (qV K) E args s h0) (F0 m 71 ls []) := by
  have hx := X.hx
  have hb := X.hb
  unfold w_X8_forgets_J71 at hw
  refine lv_iload hx hb dX8_forgets_71 (lv_at hl 3 rfl) ?_
  refine lv_istore_n (i := 3) (lv' := [(3, .int v4), (0, va_rf v0), (1, va_rf v1), (2, .int v2), (4, .int v4)]) hx hb dX8_forgets_73 rfl hl (by decide) rfl (fun ls hl => ?_)
  exact t_X8_forgets_J74 X k19 hw hR (lv_sub hl [1, 2, 3, 0, 4] rfl)
theorem t_X8_forgets_L19 {p : Program} {l : Launch} {e : Env} {s : State} {m : MethodId} {args : Array Value} {below : List Frame} {meth : Method} {c : Code} {g : GT} {h0 : AH} {v0 : Option Nat} {v1 : Option Nat} {v2 : Int32} {K : Unit → AH → Prop} {E : Nat → AH → Prop} (X : Cx g h0 p s m args meth c RX8 cX8_forgets 5 none)  : ∀ (n : Nat) {v3 : Int32} {v4 : Int32} {h : AH} {H : Heap} {locs : List Loc} {cells slots : Nat} {ls : Array Slot}, LpN2 (w_X8_forgets_L19 g v0 v1 v2 K E) n v3 v4 h → HS g s h H locs → lv_has ls 5 [(0, va_rf v0), (1, va_rf v1), (2, .int v2), (3, .int v3), (4, .int v4)] → W p l e (RM 2 h0) s m args below meth c H locs cells slots (MQT below g (qV K) E args s h0) (F0 m 19 ls []) := by
  have hx := X.hx
  have hb := X.hb
  intro n
  induction n with
  | zero =>
    intro v3 v4 h H locs cells slots ls hw
    exact hw.elim
  | succ n k19 =>
    intro v3 v4 h H locs cells slots ls hw hR hl
    have hw : w_X8_forgets_L19 g v0 v1 v2 K E (LpN2 (w_X8_forgets_L19 g v0 v1 v2 K E) n) v3 v4 h := hw
    unfold w_X8_forgets_L19 at hw
    refine lv_iload hx hb dX8_forgets_19 (lv_at hl 4 rfl) ?_
    refine r_aload_n X dX8_forgets_21 rfl (lv_at hl 0 rfl) ?_
    refine r_gR X hR fk_X8_316 dX8_forgets_22 hw (fun x4 hw => ?_)
    refine r_gI X hR fk_X8_194 dX8_forgets_25 hw (fun x5 hw => ?_)
    refine lv_icmp_ge (tgt := 80) hx hb dX8_forgets_28 (by decide) (fun c6 => ?_) (fun c6 => ?_)
    · have hw := hw.1 c6
      refine r_aload_n X dX8_forgets_80 rfl (lv_at hl 1 rfl) ?_
      refine lv_iconst (v := 0) hx hb dX8_forgets_81 (by decide) ?_
      refine lv_iload_n hx hb dX8_forgets_82 rfl (lv_at hl 3 rfl) ?_
      refine lv_iadd hx hb dX8_forgets_83 ?_
      refine lv_bipush (v := (-2)) hx hb dX8_forgets_84 (by decide) ?_
      refine r_iast X hR dX8_forgets_86 hw (fun H locs h hR hw => ?_)
      exact r_vret X hR rfl dX8_forgets_87 hw
    · have hw := hw.2 c6
      refine r_aload_n X dX8_forgets_31 rfl (lv_at hl 1 rfl) ?_
      refine lv_iconst (v := 0) hx hb dX8_forgets_32 (by decide) ?_
      refine lv_iload hx hb dX8_forgets_33 (lv_at hl 4 rfl) ?_
      refine lv_iadd hx hb dX8_forgets_35 ?_
      refine r_iald X hR dX8_forgets_36 hw (fun x7 hw => ?_)
      refine lv_iload_n hx hb dX8_forgets_37 rfl (lv_at hl 2 rfl) ?_
      refine lv_icmp_eq (tgt := 44) hx hb dX8_forgets_38 (by decide) (fun c8 => ?_) (fun c8 => ?_)
      · have hw := hw.1 c8
        refine lv_iload_n hx hb dX8_forgets_44 rfl (lv_at hl 3 rfl) ?_
        refine lv_iconst (v := (-1)) hx hb dX8_forgets_45 (by decide) ?_
        refine lv_icmp_eq (tgt := 71) hx hb dX8_forgets_46 (by decide) (fun c9 => ?_) (fun c9 => ?_)
        · have hw := hw.1 c9
          exact t_X8_forgets_J71 X k19 hw hR (lv_sub hl [0, 1, 2, 4] rfl)
        · have hw := hw.2 c9
          refine r_aload_n X dX8_forgets_49 rfl (lv_at hl 0 rfl) ?_
          refine r_gR X hR fk_X8_316 dX8_forgets_50 hw (fun x11 hw => ?_)
          refine r_gR X hR fk_X8_273 dX8_forgets_53 hw (fun x12 hw => ?_)
          refine lv_iload hx hb dX8_forgets_56 (lv_at hl 4 rfl) ?_
          refine r_iald X hR dX8_forgets_58 hw (fun x13 hw => ?_)
          refine r_aload_n X dX8_forgets_59 rfl (lv_at hl 0 rfl) ?_
          refine r_gR X hR fk_X8_316 dX8_forgets_60 hw (fun x14 hw => ?_)
          refine r_gR X hR fk_X8_273 dX8_forgets_63 hw (fun x15 hw => ?_)
          refine lv_iload_n hx hb dX8_forgets_66 rfl (lv_at hl 3 rfl) ?_
          refine r_iald X hR dX8_forgets_67 hw (fun x16 hw => ?_)
          refine lv_icmp_ge (tgt := 74) hx hb dX8_forgets_68 (by decide) (fun c17 => ?_) (fun c17 => ?_)
          · have hw := hw.1 c17
            exact t_X8_forgets_J74 X k19 hw hR (lv_sub hl [0, 1, 2, 3, 4] rfl)
          · have hw := hw.2 c17
            exact t_X8_forgets_J71 X k19 hw hR (lv_sub hl [0, 1, 2, 4] rfl)
      · have hw := hw.2 c8
        refine lv_goto (tgt := 74) hx hb dX8_forgets_41 (by decide) ?_
        exact t_X8_forgets_J74 X k19 hw hR (lv_sub hl [0, 1, 2, 3, 4] rfl)
theorem c_X8_forgets (l : Launch) (g : GT) (v0 : Option Nat) (v1 : Option Nat) (v2 : Int32) : CT qV l yX8_forgets (ws_ yX8_forgets cX8_forgets 5 none) 2 g [va_rf v0, va_rf v1, .int v2] (fun K E h => w_X8_forgets g v0 v1 v2 K E h) := by
  refine CT_of (lv := [(0, va_rf v0), (1, va_rf v1), (2, .int v2)]) (by decide +kernel) (by simp [lg_sl, cat_rf, cat_int, cat_long]) (by simp [lv_args, cat_rf, cat_int, cat_long]) (fun h0 K E p e s m args below meth c H locs cells slots ls X hxt hmn hw hR hl => ?_)
  have hx := X.hx
  have hb := X.hb
  unfold w_X8_forgets at hw
  refine r_aload_n X dX8_forgets_0 rfl (lv_at hl 0 rfl) ?_
  refine r_aload_n X dX8_forgets_1 rfl (lv_at hl 1 rfl) ?_
  refine lv_iload_n hx hb dX8_forgets_2 rfl (lv_at hl 2 rfl) ?_
  refine r_callI X hR (c_V (ci := 8) (q := (RX8, TX8, 32)) X hR hl.1 (c_X8_hadBy l g v0 v1 v2) (lw_V q1957 q1959 qs81 q125 q1960) rfl rfl mh_X8_hadBy rfl (by decide) (by decide) rfl (cat4 (Nat.le_of_ble_eq_true rfl)) dX8_forgets_3 hw) (fun x1 h H locs cells slots hR hw => ?_)
  refine r_callI X hR (c_S X hR hl.1 (c_X8_bits l g x1) (lw_S q2020 q2021 q125 q2022) mh_X8_bits rfl (by decide) (by decide) rfl (cat4 (Nat.le_of_ble_eq_true rfl)) dX8_forgets_6 hw) (fun x2 h H locs cells slots hR hw => ?_)
  refine lv_iconst (v := 2) hx hb dX8_forgets_9 (by decide) ?_
  refine lv_icmp_ge (tgt := 14) hx hb dX8_forgets_10 (by decide) (fun c3 => ?_) (fun c3 => ?_)
  · have hw := hw.1 c3
    refine lv_iconst (v := (-1)) hx hb dX8_forgets_14 (by decide) ?_
    refine lv_istore_n (i := 3) (lv' := [(3, .int (-1)), (0, va_rf v0), (1, va_rf v1), (2, .int v2)]) hx hb dX8_forgets_15 rfl hl (by decide) rfl (fun ls hl => ?_)
    refine lv_iconst (v := 0) hx hb dX8_forgets_16 (by decide) ?_
    refine lv_istore (i := 4) (lv' := [(4, .int 0), (3, .int (-1)), (0, va_rf v0), (1, va_rf v1), (2, .int v2)]) hx hb dX8_forgets_17 hl (by decide) rfl (fun ls hl => ?_)
    obtain ⟨n, hw⟩ := hw
    exact t_X8_forgets_L19 X  n hw hR (lv_sub hl [2, 3, 4, 1, 0] rfl)
  · have hw := hw.2 c3
    exact r_vret X hR rfl dX8_forgets_13 hw
theorem t_X8_ends_J183 {p : Program} {l : Launch} {e : Env} {s : State} {m : MethodId} {args : Array Value} {below : List Frame} {meth : Method} {c : Code} {g : GT} {h0 : AH} {v0 : Option Nat} {v1 : Option Nat} {v3 : Int32} {K : Unit → AH → Prop} {E : Nat → AH → Prop} {L153 : Int32 → AH → Prop} {h : AH} {H : Heap} {locs : List Loc} {cells slots : Nat} {ls : Array Slot} (X : Cx g h0 p s m args meth c RX8 cX8_ends 6 none) (k153 : ∀ {v3' : Int32} {h : AH} {H : Heap} {locs : List Loc} {cells slots : Nat} {ls : Array Slot}, L153 v3' h → HS g s h H locs → lv_has ls 6 [(0, va_rf v0), (1, va_rf v1), (3, .int (v3'))] → W p l e (RM 3 h0) s m args below meth c H locs cells slots (MQT below g (qV K) E args s h0) (F0 m 153 ls [])) (hw : w_X8_ends_J183 g v0 v1 v3 K E L153 h) (hR : HS g s h H locs) (hl : lv_has ls 6 [(0, va_rf v0), (1, va_rf v1), (3, .int v3)]) : W p l e (RM 3 h0) s m args below meth c H locs cells slots (MQT below g (qV K) E args s h0) (F0 m 183 ls []) := by
  have hx := X.hx
  have hb := X.hb
  unfold w_X8_ends_J183 at hw
  refine r_iinc X (k := 2) (v := (v3 + 1)) (lv' := fun x18 => [(3, .int x18), (0, va_rf v0), (1, va_rf v1)]) dX8_ends_183 hl rfl rfl (by decide) hw (fun _ => rfl) (fun x18 hw ls hl => ?_)
  refine lv_goto (tgt := 153) hx hb dX8_ends_186 (by decide) ?_
  exact k153 hw hR (lv_sub hl [1, 2, 0] rfl)
theorem t_X8_ends_L153 {p : Program} {l : Launch} {e : Env} {s : State} {m : MethodId} {args : Array Value} {below : List Frame} {meth : Method} {c : Code} {g : GT} {h0 : AH} {v0 : Option Nat} {v1 : Option Nat} {K : Unit → AH → Prop} {E : Nat → AH → Prop} (X : Cx g h0 p s m args meth c RX8 cX8_ends 6 none)  : ∀ (n : Nat) {v3 : Int32} {h : AH} {H : Heap} {locs : List Loc} {cells slots : Nat} {ls : Array Slot}, LpN1 (w_X8_ends_L153 g v0 v1 K E) n v3 h → HS g s h H locs → lv_has ls 6 [(0, va_rf v0), (1, va_rf v1), (3, .int v3)] → W p l e (RM 3 h0) s m args below meth c H locs cells slots (MQT below g (qV K) E args s h0) (F0 m 153 ls []) := by
  have hx := X.hx
  have hb := X.hb
  intro n
  induction n with
  | zero =>
    intro v3 h H locs cells slots ls hw
    exact hw.elim
  | succ n k153 =>
    intro v3 h H locs cells slots ls hw hR hl
    have hw : w_X8_ends_L153 g v0 v1 K E (LpN1 (w_X8_ends_L153 g v0 v1 K E) n) v3 h := hw
    unfold w_X8_ends_L153 at hw
    refine lv_iload_n hx hb dX8_ends_153 rfl (lv_at hl 2 rfl) ?_
    refine r_aload_n X dX8_ends_154 rfl (lv_at hl 0 rfl) ?_
    refine r_gR X hR fk_X8_316 dX8_ends_155 hw (fun x11 hw => ?_)
    refine r_gI X hR fk_X8_191 dX8_ends_158 hw (fun x12 hw => ?_)
    refine lv_icmp_ge (tgt := 189) hx hb dX8_ends_161 (by decide) (fun c13 => ?_) (fun c13 => ?_)
    · have hw := hw.1 c13
      exact r_vret X hR rfl dX8_ends_189 hw
    · have hw := hw.2 c13
      refine r_aload_n X dX8_ends_164 rfl (lv_at hl 0 rfl) ?_
      refine r_gR X hR fk_X8_316 dX8_ends_165 hw (fun x14 hw => ?_)
      refine r_gR X hR fk_X8_251 dX8_ends_168 hw (fun x15 hw => ?_)
      refine lv_iload_n hx hb dX8_ends_171 rfl (lv_at hl 2 rfl) ?_
      refine r_iald X hR dX8_ends_172 hw (fun x16 hw => ?_)
      refine lv_iconst (v := 2) hx hb dX8_ends_173 (by decide) ?_
      refine lv_icmp_ne (tgt := 183) hx hb dX8_ends_174 (by decide) (fun c17 => ?_) (fun c17 => ?_)
      · have hw := hw.1 c17
        exact t_X8_ends_J183 X k153 hw hR (lv_sub hl [0, 1, 2] rfl)
      · have hw := hw.2 c17
        refine r_aload_n X dX8_ends_177 rfl (lv_at hl 0 rfl) ?_
        refine r_aload_n X dX8_ends_178 rfl (lv_at hl 1 rfl) ?_
        refine lv_iload_n hx hb dX8_ends_179 rfl (lv_at hl 2 rfl) ?_
        refine r_callV X hR (c_V (ci := 8) (q := (RX8, TX8, 32)) X hR hl.1 (c_X8_forgets l g v0 v1 v3) (lw_V q2016 q2018 qs90 q125 q2019) rfl rfl mh_X8_forgets rfl (by decide) (by decide) rfl (cat4 (Nat.le_of_ble_eq_true rfl)) dX8_ends_180 hw) (fun _ h H locs cells slots hR hw => ?_)
        exact t_X8_ends_J183 X k153 hw hR (lv_sub hl [0, 1, 2] rfl)
theorem t_X8_ends_J151 {p : Program} {l : Launch} {e : Env} {s : State} {m : MethodId} {args : Array Value} {below : List Frame} {meth : Method} {c : Code} {g : GT} {h0 : AH} {v0 : Option Nat} {v1 : Option Nat} {K : Unit → AH → Prop} {E : Nat → AH → Prop} {h : AH} {H : Heap} {locs : List Loc} {cells slots : Nat} {ls : Array Slot} (X : Cx g h0 p s m args meth c RX8 cX8_ends 6 none)  (hw : w_X8_ends_J151 g v0 v1 K E h) (hR : HS g s h H locs) (hl : lv_has ls 6 [(0, va_rf v0), (1, va_rf v1)]) : W p l e (RM 3 h0) s m args below meth c H locs cells slots (MQT below g (qV K) E args s h0) (F0 m 151 ls []) := by
  have hx := X.hx
  have hb := X.hb
  unfold w_X8_ends_J151 at hw
  refine lv_iconst (v := 0) hx hb dX8_ends_151 (by decide) ?_
  refine lv_istore_n (i := 3) (lv' := [(3, .int 0), (0, va_rf v0), (1, va_rf v1)]) hx hb dX8_ends_152 rfl hl (by decide) rfl (fun ls hl => ?_)
  obtain ⟨n, hw⟩ := hw
  exact t_X8_ends_L153 X  n hw hR (lv_sub hl [1, 2, 0] rfl)
theorem t_X8_ends_J132 {p : Program} {l : Launch} {e : Env} {s : State} {m : MethodId} {args : Array Value} {below : List Frame} {meth : Method} {c : Code} {g : GT} {h0 : AH} {v0 : Option Nat} {v1 : Option Nat} {K : Unit → AH → Prop} {E : Nat → AH → Prop} {h : AH} {H : Heap} {locs : List Loc} {cells slots : Nat} {ls : Array Slot} (X : Cx g h0 p s m args meth c RX8 cX8_ends 6 none)  (hw : w_X8_ends_J132 g v0 v1 K E h) (hR : HS g s h H locs) (hl : lv_has ls 6 [(0, va_rf v0), (1, va_rf v1)]) : W p l e (RM 3 h0) s m args below meth c H locs cells slots (MQT below g (qV K) E args s h0) (F0 m 132 ls []) := by
  have hx := X.hx
  have hb := X.hb
  unfold w_X8_ends_J132 at hw
  refine r_aload_n X dX8_ends_132 rfl (lv_at hl 1 rfl) ?_
  refine lv_bipush (v := 10) hx hb dX8_ends_133 (by decide) ?_
  refine r_iald X hR dX8_ends_135 hw (fun x7 hw => ?_)
  refine r_aload_n X dX8_ends_136 rfl (lv_at hl 0 rfl) ?_
  refine r_gR X hR fk_X8_316 dX8_ends_137 hw (fun x8 hw => ?_)
  refine r_gI X hR fk_X8_156 dX8_ends_140 hw (fun x9 hw => ?_)
  refine lv_icmp_lt (tgt := 151) hx hb dX8_ends_143 (by decide) (fun c10 => ?_) (fun c10 => ?_)
  · have hw := hw.1 c10
    exact t_X8_ends_J151 X  hw hR (lv_sub hl [0, 1] rfl)
  · have hw := hw.2 c10
    refine r_aload_n X dX8_ends_146 rfl (lv_at hl 0 rfl) ?_
    refine r_aload_n X dX8_ends_147 rfl (lv_at hl 1 rfl) ?_
    refine r_callV X hR (c_V (ci := 8) (q := (RX8, TX8, 32)) X hR hl.1 (c_X8_lapses l g v0 v1) (lw_V q2012 q2014 qs89 q125 q2015) rfl rfl mh_X8_lapses rfl (by decide) (by decide) rfl (cat4 (Nat.le_of_ble_eq_true rfl)) dX8_ends_148 hw) (fun _ h H locs cells slots hR hw => ?_)
    exact t_X8_ends_J151 X  hw hR (lv_sub hl [0, 1] rfl)
theorem t_X8_ends_J97 {p : Program} {l : Launch} {e : Env} {s : State} {m : MethodId} {args : Array Value} {below : List Frame} {meth : Method} {c : Code} {g : GT} {h0 : AH} {v0 : Option Nat} {v1 : Option Nat} {v2 : Int32} {v3 : Int32} {K : Unit → AH → Prop} {E : Nat → AH → Prop} {L2 : Int32 → AH → Prop} {h : AH} {H : Heap} {locs : List Loc} {cells slots : Nat} {ls : Array Slot} (X : Cx g h0 p s m args meth c RX8 cX8_ends 6 none) (k2 : ∀ {v3' : Int32} {h : AH} {H : Heap} {locs : List Loc} {cells slots : Nat} {ls : Array Slot}, L2 v3' h → HS g s h H locs → lv_has ls 6 [(0, va_rf v0), (1, va_rf v1), (2, .int v2), (3, .int (v3'))] → W p l e (RM 3 h0) s m args below meth c H locs cells slots (MQT below g (qV K) E args s h0) (F0 m 2 ls [])) (hw : w_X8_ends_J97 g v0 v1 v2 v3 K E L2 h) (hR : HS g s h H locs) (hl : lv_has ls 6 [(0, va_rf v0), (1, va_rf v1), (2, .int v2), (3, .int v3)]) : W p l e (RM 3 h0) s m args below meth c H locs cells slots (MQT below g (qV K) E args s h0) (F0 m 97 ls []) := by
  have hx := X.hx
  have hb := X.hb
  unfold w_X8_ends_J97 at hw
  refine r_iinc X (k := 3) (v := (v3 + 1)) (lv' := fun x27 => [(3, .int x27), (0, va_rf v0), (1, va_rf v1), (2, .int v2)]) dX8_ends_97 hl rfl rfl (by decide) hw (fun _ => rfl) (fun x27 hw ls hl => ?_)
  refine lv_goto (tgt := 2) hx hb dX8_ends_100 (by decide) ?_
  exact k2 hw hR (lv_sub hl [1, 2, 3, 0] rfl)
theorem t_X8_ends_J67 {p : Program} {l : Launch} {e : Env} {s : State} {m : MethodId} {args : Array Value} {below : List Frame} {meth : Method} {c : Code} {g : GT} {h0 : AH} {v0 : Option Nat} {v1 : Option Nat} {v2 : Int32} {v3 : Int32} {v4 : Int32} {s0 : Int32} {K : Unit → AH → Prop} {E : Nat → AH → Prop} {L2 : Int32 → AH → Prop} {h : AH} {H : Heap} {locs : List Loc} {cells slots : Nat} {ls : Array Slot} (X : Cx g h0 p s m args meth c RX8 cX8_ends 6 none) (k2 : ∀ {v3' : Int32} {h : AH} {H : Heap} {locs : List Loc} {cells slots : Nat} {ls : Array Slot}, L2 v3' h → HS g s h H locs → lv_has ls 6 [(0, va_rf v0), (1, va_rf v1), (2, .int v2), (3, .int (v3'))] → W p l e (RM 3 h0) s m args below meth c H locs cells slots (MQT below g (qV K) E args s h0) (F0 m 2 ls [])) (hw : w_X8_ends_J67 g v0 v1 v2 v3 v4 s0 K E L2 h) (hR : HS g s h H locs) (hl : lv_has ls 6 [(0, va_rf v0), (1, va_rf v1), (2, .int v2), (3, .int v3), (4, .int v4)]) : W p l e (RM 3 h0) s m args below meth c H locs cells slots (MQT below g (qV K) E args s h0) (F0 m 67 ls [.int s0]) := by
  have hx := X.hx
  have hb := X.hb
  unfold w_X8_ends_J67 at hw
  refine lv_istore (i := 5) (lv' := [(5, .int s0), (0, va_rf v0), (1, va_rf v1), (2, .int v2), (3, .int v3), (4, .int v4)]) hx hb dX8_ends_67 hl (by decide) rfl (fun ls hl => ?_)
  refine lv_iload hx hb dX8_ends_69 (lv_at hl 0 rfl) ?_
  refine lv_if_eq (tgt := 97) hx hb dX8_ends_71 (by decide) (fun c26 => ?_) (fun c26 => ?_)
  · have hw := hw.1 c26
    exact t_X8_ends_J97 X k2 hw hR (lv_sub hl [1, 2, 3, 4] rfl)
  · have hw := hw.2 c26
    refine lv_iload hx hb dX8_ends_74 (lv_at hl 5 rfl) ?_
    refine lv_bipush (v := (-2)) hx hb dX8_ends_76 (by decide) ?_
    refine lv_icmp_eq (tgt := 97) hx hb dX8_ends_78 (by decide) (fun c28 => ?_) (fun c28 => ?_)
    · have hw := hw.1 c28
      exact t_X8_ends_J97 X k2 hw hR (lv_sub hl [1, 2, 3, 4] rfl)
    · have hw := hw.2 c28
      refine r_aload_n X dX8_ends_81 rfl (lv_at hl 1 rfl) ?_
      refine lv_iload hx hb dX8_ends_82 (lv_at hl 5 rfl) ?_
      refine r_callI X hR (c_V (ci := 8) (q := (RX8, TX8, 32)) X hR hl.1 (c_X8_isChild l g v0 v4) (lw_V q1925 q1927 qs77 q125 q1928) rfl rfl mh_X8_isChild rfl (by decide) (by decide) rfl (cat4 (Nat.le_of_ble_eq_true rfl)) dX8_ends_84 hw) (fun x29 h H locs cells slots hR hw => ?_)
      refine lv_if_ne (tgt := 97) hx hb dX8_ends_87 (by decide) (fun c30 => ?_) (fun c30 => ?_)
      · have hw := hw.1 c30
        exact t_X8_ends_J97 X k2 hw hR (lv_sub hl [1, 2, 3, 4] rfl)
      · have hw := hw.2 c30
        refine r_aload_n X dX8_ends_90 rfl (lv_at hl 2 rfl) ?_
        refine lv_iconst (v := 5) hx hb dX8_ends_91 (by decide) ?_
        refine lv_iload_n hx hb dX8_ends_92 rfl (lv_at hl 4 rfl) ?_
        refine lv_iadd hx hb dX8_ends_93 ?_
        refine lv_iload hx hb dX8_ends_94 (lv_at hl 5 rfl) ?_
        refine r_iast X hR dX8_ends_96 hw (fun H locs h hR hw => ?_)
        exact t_X8_ends_J97 X k2 hw hR (lv_sub hl [1, 2, 3, 4] rfl)
theorem t_X8_ends_J66 {p : Program} {l : Launch} {e : Env} {s : State} {m : MethodId} {args : Array Value} {below : List Frame} {meth : Method} {c : Code} {g : GT} {h0 : AH} {v0 : Option Nat} {v1 : Option Nat} {v2 : Int32} {v3 : Int32} {v4 : Int32} {K : Unit → AH → Prop} {E : Nat → AH → Prop} {L2 : Int32 → AH → Prop} {h : AH} {H : Heap} {locs : List Loc} {cells slots : Nat} {ls : Array Slot} (X : Cx g h0 p s m args meth c RX8 cX8_ends 6 none) (k2 : ∀ {v3' : Int32} {h : AH} {H : Heap} {locs : List Loc} {cells slots : Nat} {ls : Array Slot}, L2 v3' h → HS g s h H locs → lv_has ls 6 [(0, va_rf v0), (1, va_rf v1), (2, .int v2), (3, .int (v3'))] → W p l e (RM 3 h0) s m args below meth c H locs cells slots (MQT below g (qV K) E args s h0) (F0 m 2 ls [])) (hw : w_X8_ends_J66 g v0 v1 v2 v3 v4 K E L2 h) (hR : HS g s h H locs) (hl : lv_has ls 6 [(0, va_rf v0), (1, va_rf v1), (2, .int v2), (3, .int v3), (4, .int v4)]) : W p l e (RM 3 h0) s m args below meth c H locs cells slots (MQT below g (qV K) E args s h0) (F0 m 66 ls []) := by
  have hx := X.hx
  have hb := X.hb
  unfold w_X8_ends_J66 at hw
  refine lv_iconst (v := 0) hx hb dX8_ends_66 (by decide) ?_
  exact t_X8_ends_J67 X k2 hw hR (lv_sub hl [0, 1, 2, 3, 4] rfl)
theorem t_X8_ends_L2 {p : Program} {l : Launch} {e : Env} {s : State} {m : MethodId} {args : Array Value} {below : List Frame} {meth : Method} {c : Code} {g : GT} {h0 : AH} {v0 : Option Nat} {v1 : Option Nat} {v2 : Int32} {K : Unit → AH → Prop} {E : Nat → AH → Prop} (X : Cx g h0 p s m args meth c RX8 cX8_ends 6 none)  : ∀ (n : Nat) {v3 : Int32} {h : AH} {H : Heap} {locs : List Loc} {cells slots : Nat} {ls : Array Slot}, LpN1 (w_X8_ends_L2 g v0 v1 v2 K E) n v3 h → HS g s h H locs → lv_has ls 6 [(0, va_rf v0), (1, va_rf v1), (2, .int v2), (3, .int v3)] → W p l e (RM 3 h0) s m args below meth c H locs cells slots (MQT below g (qV K) E args s h0) (F0 m 2 ls []) := by
  have hx := X.hx
  have hb := X.hb
  intro n
  induction n with
  | zero =>
    intro v3 h H locs cells slots ls hw
    exact hw.elim
  | succ n k2 =>
    intro v3 h H locs cells slots ls hw hR hl
    have hw : w_X8_ends_L2 g v0 v1 v2 K E (LpN1 (w_X8_ends_L2 g v0 v1 v2 K E) n) v3 h := hw
    unfold w_X8_ends_L2 at hw
    refine lv_iload_n hx hb dX8_ends_2 rfl (lv_at hl 3 rfl) ?_
    refine r_aload_n X dX8_ends_3 rfl (lv_at hl 0 rfl) ?_
    refine r_gR X hR fk_X8_316 dX8_ends_4 hw (fun x1 hw => ?_)
    refine r_gI X hR fk_X8_194 dX8_ends_7 hw (fun x2 hw => ?_)
    refine lv_icmp_ge (tgt := 103) hx hb dX8_ends_10 (by decide) (fun c3 => ?_) (fun c3 => ?_)
    · have hw := hw.1 c3
      refine lv_iload_n hx hb dX8_ends_103 rfl (lv_at hl 2 rfl) ?_
      refine lv_if_eq (tgt := 115) hx hb dX8_ends_104 (by decide) (fun c4 => ?_) (fun c4 => ?_)
      · have hw := hw.1 c4
        refine r_aload_n X dX8_ends_115 rfl (lv_at hl 1 rfl) ?_
        refine lv_bipush (v := 10) hx hb dX8_ends_116 (by decide) ?_
        refine r_iald X hR dX8_ends_118 hw (fun x5 hw => ?_)
        refine lv_bipush (v := 30) hx hb dX8_ends_119 (by decide) ?_
        refine lv_icmp_ge (tgt := 132) hx hb dX8_ends_121 (by decide) (fun c6 => ?_) (fun c6 => ?_)
        · have hw := hw.1 c6
          exact t_X8_ends_J132 X  hw hR (lv_sub hl [0, 1] rfl)
        · have hw := hw.2 c6
          refine r_aload_n X dX8_ends_124 rfl (lv_at hl 1 rfl) ?_
          refine lv_bipush (v := 10) hx hb dX8_ends_125 (by decide) ?_
          refine lv_dup2_11 hx hb dX8_ends_127 rfl (cat_rf _) ?_
          refine r_iald X hR dX8_ends_128 hw (fun x19 hw => ?_)
          refine lv_iconst (v := 1) hx hb dX8_ends_129 (by decide) ?_
          refine lv_iadd hx hb dX8_ends_130 ?_
          refine r_iast X hR dX8_ends_131 hw (fun H locs h hR hw => ?_)
          exact t_X8_ends_J132 X  hw hR (lv_sub hl [0, 1] rfl)
      · have hw := hw.2 c4
        refine r_aload_n X dX8_ends_107 rfl (lv_at hl 1 rfl) ?_
        refine lv_bipush (v := 10) hx hb dX8_ends_108 (by decide) ?_
        refine lv_iconst (v := 0) hx hb dX8_ends_110 (by decide) ?_
        refine r_iast X hR dX8_ends_111 hw (fun H locs h hR hw => ?_)
        refine lv_goto (tgt := 132) hx hb dX8_ends_112 (by decide) ?_
        exact t_X8_ends_J132 X  hw hR (lv_sub hl [0, 1] rfl)
    · have hw := hw.2 c3
      refine r_aload_n X dX8_ends_13 rfl (lv_at hl 1 rfl) ?_
      refine lv_iconst (v := 0) hx hb dX8_ends_14 (by decide) ?_
      refine lv_iload_n hx hb dX8_ends_15 rfl (lv_at hl 3 rfl) ?_
      refine lv_iadd hx hb dX8_ends_16 ?_
      refine r_iald X hR dX8_ends_17 hw (fun x20 hw => ?_)
      refine lv_istore (i := 4) (lv' := [(4, .int x20), (0, va_rf v0), (1, va_rf v1), (2, .int v2), (3, .int v3)]) hx hb dX8_ends_18 hl (by decide) rfl (fun ls hl => ?_)
      refine r_aload_n X dX8_ends_20 rfl (lv_at hl 1 rfl) ?_
      refine r_gR X hR fk_X8_316 dX8_ends_21 hw (fun x21 hw => ?_)
      refine r_gR X hR fk_X8_270 dX8_ends_24 hw (fun x22 hw => ?_)
      refine lv_iload_n hx hb dX8_ends_27 rfl (lv_at hl 4 rfl) ?_
      refine r_iald X hR dX8_ends_28 hw (fun x23 hw => ?_)
      refine lv_iconst (v := 3) hx hb dX8_ends_29 (by decide) ?_
      refine lv_icmp_ne (tgt := 45) hx hb dX8_ends_30 (by decide) (fun c24 => ?_) (fun c24 => ?_)
      · have hw := hw.1 c24
        refine lv_iload_n hx hb dX8_ends_45 rfl (lv_at hl 3 rfl) ?_
        refine lv_if_eq (tgt := 66) hx hb dX8_ends_46 (by decide) (fun c25 => ?_) (fun c25 => ?_)
        · have hw := hw.1 c25
          exact t_X8_ends_J66 X k2 hw hR (lv_sub hl [1, 2, 3, 4, 0] rfl)
        · have hw := hw.2 c25
          refine r_aload_n X dX8_ends_49 rfl (lv_at hl 1 rfl) ?_
          refine r_gR X hR fk_X8_316 dX8_ends_50 hw (fun x31 hw => ?_)
          refine r_gR X hR fk_X8_270 dX8_ends_53 hw (fun x32 hw => ?_)
          refine lv_iload_n hx hb dX8_ends_56 rfl (lv_at hl 4 rfl) ?_
          refine r_iald X hR dX8_ends_57 hw (fun x33 hw => ?_)
          refine lv_iconst (v := 2) hx hb dX8_ends_58 (by decide) ?_
          refine lv_icmp_eq (tgt := 66) hx hb dX8_ends_59 (by decide) (fun c34 => ?_) (fun c34 => ?_)
          · have hw := hw.1 c34
            exact t_X8_ends_J66 X k2 hw hR (lv_sub hl [1, 2, 3, 4, 0] rfl)
          · have hw := hw.2 c34
            refine lv_iconst (v := 1) hx hb dX8_ends_62 (by decide) ?_
            refine lv_goto (tgt := 67) hx hb dX8_ends_63 (by decide) ?_
            exact t_X8_ends_J67 X k2 hw hR (lv_sub hl [1, 2, 3, 4, 0] rfl)
      · have hw := hw.2 c24
        refine lv_iload_n hx hb dX8_ends_33 rfl (lv_at hl 3 rfl) ?_
        refine lv_if_ne (tgt := 41) hx hb dX8_ends_34 (by decide) (fun c35 => ?_) (fun c35 => ?_)
        · have hw := hw.1 c35
          refine lv_iconst (v := 0) hx hb dX8_ends_41 (by decide) ?_
          refine lv_goto (tgt := 67) hx hb dX8_ends_42 (by decide) ?_
          exact t_X8_ends_J67 X k2 hw hR (lv_sub hl [1, 2, 3, 4, 0] rfl)
        · have hw := hw.2 c35
          refine lv_iconst (v := 1) hx hb dX8_ends_37 (by decide) ?_
          refine lv_goto (tgt := 67) hx hb dX8_ends_38 (by decide) ?_
          exact t_X8_ends_J67 X k2 hw hR (lv_sub hl [1, 2, 3, 4, 0] rfl)
theorem c_X8_ends (l : Launch) (g : GT) (v0 : Option Nat) (v1 : Option Nat) (v2 : Int32) : CT qV l yX8_ends (ws_ yX8_ends cX8_ends 6 none) 3 g [va_rf v0, va_rf v1, .int v2] (fun K E h => w_X8_ends g v0 v1 v2 K E h) := by
  refine CT_of (lv := [(0, va_rf v0), (1, va_rf v1), (2, .int v2)]) (by decide +kernel) (by simp [lg_sl, cat_rf, cat_int, cat_long]) (by simp [lv_args, cat_rf, cat_int, cat_long]) (fun h0 K E p e s m args below meth c H locs cells slots ls X hxt hmn hw hR hl => ?_)
  have hx := X.hx
  have hb := X.hb
  unfold w_X8_ends at hw
  refine lv_iconst (v := 0) hx hb dX8_ends_0 (by decide) ?_
  refine lv_istore_n (i := 3) (lv' := [(3, .int 0), (0, va_rf v0), (1, va_rf v1), (2, .int v2)]) hx hb dX8_ends_1 rfl hl (by decide) rfl (fun ls hl => ?_)
  obtain ⟨n, hw⟩ := hw
  exact t_X8_ends_L2 X  n hw hR (lv_sub hl [1, 2, 3, 0] rfl)
theorem c_X8_goesBy (l : Launch) (g : GT) (v0 : Option Nat) (v1 : Int32) : CT qV l yX8_goesBy (ws_ yX8_goesBy cX8_goesBy 2 none) 4 g [va_rf v0, .int v1] (fun K E h => w_X8_goesBy g v0 v1 K E h) := by
  refine CT_of (lv := [(0, va_rf v0), (1, .int v1)]) (by decide +kernel) (by simp [lg_sl, cat_rf, cat_int, cat_long]) (by simp [lv_args, cat_rf, cat_int, cat_long]) (fun h0 K E p e s m args below meth c H locs cells slots ls X hxt hmn hw hR hl => ?_)
  have hx := X.hx
  have hb := X.hb
  unfold w_X8_goesBy at hw
  refine r_aload_n X dX8_goesBy_0 rfl (lv_at hl 0 rfl) ?_
  refine r_aload_n X dX8_goesBy_1 rfl (lv_at hl 0 rfl) ?_
  refine r_gR X hR fk_X8_21 dX8_goesBy_2 hw (fun x1 hw => ?_)
  refine r_aload_n X dX8_goesBy_5 rfl (lv_at hl 0 rfl) ?_
  refine lv_iload_n hx hb dX8_goesBy_6 rfl (lv_at hl 1 rfl) ?_
  refine r_callI X hR (c_V (ci := 8) (q := (RX8, TX8, 32)) X hR hl.1 (c_X8_happens l g v0 v1) (lw_V q2001 q2003 qs87 q125 q2004) rfl rfl mh_X8_happens rfl (by decide) (by decide) rfl (cat4 (Nat.le_of_ble_eq_true rfl)) dX8_goesBy_7 hw) (fun x2 h H locs cells slots hR hw => ?_)
  refine r_callV X hR (c_V (ci := 8) (q := (RX8, TX8, 32)) X hR hl.1 (c_X8_ends l g v0 x1 x2) (lw_V q2008 q2010 qs88 q125 q2011) rfl rfl mh_X8_ends rfl (by decide) (by decide) rfl (cat4 (Nat.le_of_ble_eq_true rfl)) dX8_goesBy_10 hw) (fun _ h H locs cells slots hR hw => ?_)
  exact r_vret X hR rfl dX8_goesBy_13 hw
theorem t_X8_behind_L10 {p : Program} {l : Launch} {e : Env} {s : State} {m : MethodId} {args : Array Value} {below : List Frame} {meth : Method} {c : Code} {g : GT} {h0 : AH} {v0 : Option Nat} {v1 : Int32} {K : Unit → AH → Prop} {E : Nat → AH → Prop} (X : Cx g h0 p s m args meth c RX8 cX8_behind 3 none)  : ∀ (n : Nat) {v2 : Int32} {h : AH} {H : Heap} {locs : List Loc} {cells slots : Nat} {ls : Array Slot}, LpN1 (w_X8_behind_L10 g v0 v1 K E) n v2 h → HS g s h H locs → lv_has ls 3 [(0, va_rf v0), (1, .int v1), (2, .int v2)] → W p l e (RM 5 h0) s m args below meth c H locs cells slots (MQT below g (qV K) E args s h0) (F0 m 10 ls []) := by
  have hx := X.hx
  have hb := X.hb
  intro n
  induction n with
  | zero =>
    intro v2 h H locs cells slots ls hw
    exact hw.elim
  | succ n k10 =>
    intro v2 h H locs cells slots ls hw hR hl
    have hw : w_X8_behind_L10 g v0 v1 K E (LpN1 (w_X8_behind_L10 g v0 v1 K E) n) v2 h := hw
    unfold w_X8_behind_L10 at hw
    refine lv_iload_n hx hb dX8_behind_10 rfl (lv_at hl 2 rfl) ?_
    refine lv_iload_n hx hb dX8_behind_11 rfl (lv_at hl 1 rfl) ?_
    refine lv_icmp_gt (tgt := 26) hx hb dX8_behind_12 (by decide) (fun c2 => ?_) (fun c2 => ?_)
    · have hw := hw.1 c2
      exact r_vret X hR rfl dX8_behind_26 hw
    · have hw := hw.2 c2
      refine r_aload_n X dX8_behind_15 rfl (lv_at hl 0 rfl) ?_
      refine lv_iload_n hx hb dX8_behind_16 rfl (lv_at hl 2 rfl) ?_
      refine r_callV X hR (c_V (ci := 8) (q := (RX8, TX8, 32)) X hR hl.1 (c_X8_goesBy l g v0 v2) (lw_V q1997 q1999 qs86 q125 q2000) rfl rfl mh_X8_goesBy rfl (by decide) (by decide) rfl (cat4 (Nat.le_of_ble_eq_true rfl)) dX8_behind_17 hw) (fun _ h H locs cells slots hR hw => ?_)
      refine r_iinc X (k := 2) (v := (v2 + 1)) (lv' := fun x3 => [(2, .int x3), (0, va_rf v0), (1, .int v1)]) dX8_behind_20 hl rfl rfl (by decide) hw (fun _ => rfl) (fun x3 hw ls hl => ?_)
      refine lv_goto (tgt := 10) hx hb dX8_behind_23 (by decide) ?_
      exact k10 hw hR (lv_sub hl [1, 2, 0] rfl)
theorem c_X8_behind (l : Launch) (g : GT) (v0 : Option Nat) (v1 : Int32) : CT qV l yX8_behind (ws_ yX8_behind cX8_behind 3 none) 5 g [va_rf v0, .int v1] (fun K E h => w_X8_behind g v0 v1 K E h) := by
  refine CT_of (lv := [(0, va_rf v0), (1, .int v1)]) (by decide +kernel) (by simp [lg_sl, cat_rf, cat_int, cat_long]) (by simp [lv_args, cat_rf, cat_int, cat_long]) (fun h0 K E p e s m args below meth c H locs cells slots ls X hxt hmn hw hR hl => ?_)
  have hx := X.hx
  have hb := X.hb
  unfold w_X8_behind at hw
  refine r_aload_n X dX8_behind_0 rfl (lv_at hl 0 rfl) ?_
  refine r_aload_n X dX8_behind_1 rfl (lv_at hl 0 rfl) ?_
  refine r_gR X hR fk_X8_21 dX8_behind_2 hw (fun x1 hw => ?_)
  refine r_callV X hR (c_V (ci := 8) (q := (RX8, TX8, 32)) X hR hl.1 (c_X8_starts l g v0 x1) (lw_V q1921 q1923 qs76 q125 q1924) rfl rfl mh_X8_starts rfl (by decide) (by decide) rfl (cat4 (Nat.le_of_ble_eq_true rfl)) dX8_behind_5 hw) (fun _ h H locs cells slots hR hw => ?_)
  refine lv_iconst (v := 0) hx hb dX8_behind_8 (by decide) ?_
  refine lv_istore_n (i := 2) (lv' := [(2, .int 0), (0, va_rf v0), (1, .int v1)]) hx hb dX8_behind_9 rfl hl (by decide) rfl (fun ls hl => ?_)
  obtain ⟨n, hw⟩ := hw
  exact t_X8_behind_L10 X  n hw hR (lv_sub hl [1, 2, 0] rfl)
theorem c_X8_asks (l : Launch) (g : GT) (v0 : Option Nat) (v1 : Int32) (v2 : Int32) : CT qI l yX8_asks (ws_ yX8_asks cX8_asks 3 (Option.some Jvm.ClassFile.FieldType.int)) 6 g [va_rf v0, .int v1, .int v2] (fun K E h => w_X8_asks g v0 v1 v2 K E h) := by
  refine CT_of (lv := [(0, va_rf v0), (1, .int v1), (2, .int v2)]) (by decide +kernel) (by simp [lg_sl, cat_rf, cat_int, cat_long]) (by simp [lv_args, cat_rf, cat_int, cat_long]) (fun h0 K E p e s m args below meth c H locs cells slots ls X hxt hmn hw hR hl => ?_)
  have hx := X.hx
  have hb := X.hb
  unfold w_X8_asks at hw
  refine lv_iload_n hx hb dX8_asks_0 rfl (lv_at hl 1 rfl) ?_
  refine lv_if_ne (tgt := 6) hx hb dX8_asks_1 (by decide) (fun c1 => ?_) (fun c1 => ?_)
  · have hw := hw.1 c1
    refine lv_iload_n hx hb dX8_asks_6 rfl (lv_at hl 2 rfl) ?_
    refine lv_iconst (v := 0) hx hb dX8_asks_7 (by decide) ?_
    refine lv_bipush (v := 40) hx hb dX8_asks_8 (by decide) ?_
    refine r_callI X hR (c_S X hR hl.1 (c_X8_in l g v2 0 40) (lw_S q1834 q1835 q125 q1836) mh_X8_in rfl (by decide) (by decide) rfl (cat4 (Nat.le_of_ble_eq_true rfl)) dX8_asks_10 hw) (fun x2 h H locs cells slots hR hw => ?_)
    refine lv_if_ne (tgt := 18) hx hb dX8_asks_13 (by decide) (fun c3 => ?_) (fun c3 => ?_)
    · have hw := hw.1 c3
      refine r_aload_n X dX8_asks_18 rfl (lv_at hl 0 rfl) ?_
      refine lv_iload_n hx hb dX8_asks_19 rfl (lv_at hl 2 rfl) ?_
      refine r_callV X hR (c_V (ci := 8) (q := (RX8, TX8, 32)) X hR hl.1 (c_X8_behind l g v0 v2) (lw_V q1993 q1995 qs85 q125 q1996) rfl rfl mh_X8_behind rfl (by decide) (by decide) rfl (cat4 (Nat.le_of_ble_eq_true rfl)) dX8_asks_20 hw) (fun _ h H locs cells slots hR hw => ?_)
      refine lv_iconst (v := 0) hx hb dX8_asks_23 (by decide) ?_
      exact r_iret X hR dX8_asks_24 hw
    · have hw := hw.2 c3
      refine lv_iconst (v := 2) hx hb dX8_asks_16 (by decide) ?_
      exact r_iret X hR dX8_asks_17 hw
  · have hw := hw.2 c1
    refine lv_iconst (v := 1) hx hb dX8_asks_4 (by decide) ?_
    exact r_iret X hR dX8_asks_5 hw
theorem c_X8_hasIt (l : Launch) (g : GT) (v0 : Option Nat) (v1 : Int32) (v2 : Int32) : CT qI l yX8_hasIt (ws_ yX8_hasIt cX8_hasIt 4 (Option.some Jvm.ClassFile.FieldType.int)) 7 g [va_rf v0, .int v1, .int v2] (fun K E h => w_X8_hasIt g v0 v1 v2 K E h) := by
  refine CT_of (lv := [(0, va_rf v0), (1, .int v1), (2, .int v2)]) (by decide +kernel) (by simp [lg_sl, cat_rf, cat_int, cat_long]) (by simp [lv_args, cat_rf, cat_int, cat_long]) (fun h0 K E p e s m args below meth c H locs cells slots ls X hxt hmn hw hR hl => ?_)
  have hx := X.hx
  have hb := X.hb
  unfold w_X8_hasIt at hw
  refine r_aload_n X dX8_hasIt_0 rfl (lv_at hl 0 rfl) ?_
  refine lv_iconst (v := 0) hx hb dX8_hasIt_1 (by decide) ?_
  refine r_put X hR fp_X8_45 (Or.inl fn_X8_45) (nf_int _) dX8_hasIt_2 hw (fun H locs h hR hw => ?_)
  refine r_aload_n X dX8_hasIt_5 rfl (lv_at hl 0 rfl) ?_
  refine r_aload_n X dX8_hasIt_6 rfl (lv_at hl 0 rfl) ?_
  refine lv_iload_n hx hb dX8_hasIt_7 rfl (lv_at hl 1 rfl) ?_
  refine r_callI X hR (c_V (ci := 8) (q := (RX8, TX8, 32)) X hR hl.1 (c_X8_isUmbrella l g v0 v1) (lw_V q1945 q1947 qs79 q125 q1948) rfl rfl mh_X8_isUmbrella rfl (by decide) (by decide) rfl (cat4 (Nat.le_of_ble_eq_true rfl)) dX8_hasIt_8 hw) (fun x1 h H locs cells slots hR hw => ?_)
  refine lv_iload_n hx hb dX8_hasIt_11 rfl (lv_at hl 2 rfl) ?_
  refine r_callI X hR (c_V (ci := 8) (q := (RX8, TX8, 32)) X hR hl.1 (c_X8_asks l g v0 x1 v2) (lw_V q1989 q1991 qs84 q125 q1992) rfl rfl mh_X8_asks rfl (by decide) (by decide) rfl (cat4 (Nat.le_of_ble_eq_true rfl)) dX8_hasIt_12 hw) (fun x2 h H locs cells slots hR hw => ?_)
  refine lv_istore_n (i := 3) (lv' := [(3, .int x2), (0, va_rf v0), (1, .int v1), (2, .int v2)]) hx hb dX8_hasIt_15 rfl hl (by decide) rfl (fun ls hl => ?_)
  refine lv_iload_n hx hb dX8_hasIt_16 rfl (lv_at hl 0 rfl) ?_
  refine lv_if_le (tgt := 28) hx hb dX8_hasIt_17 (by decide) (fun c3 => ?_) (fun c3 => ?_)
  · have hw := hw.1 c3
    refine r_aload_n X dX8_hasIt_28 rfl (lv_at hl 1 rfl) ?_
    refine r_aload_n X dX8_hasIt_29 rfl (lv_at hl 1 rfl) ?_
    refine r_gR X hR fk_X8_21 dX8_hasIt_30 hw (fun x4 hw => ?_)
    refine lv_iconst (v := 0) hx hb dX8_hasIt_33 (by decide) ?_
    refine lv_iload_n hx hb dX8_hasIt_34 rfl (lv_at hl 2 rfl) ?_
    refine lv_iadd hx hb dX8_hasIt_35 ?_
    refine r_iald X hR dX8_hasIt_36 hw (fun x5 hw => ?_)
    refine r_callI X hR (c_V (ci := 8) (q := (RX8, TX8, 32)) X hR hl.1 (c_X8_good l g v0 x5) (lw_V q1929 q1931 qs78 q125 q1932) rfl rfl mh_X8_good rfl (by decide) (by decide) rfl (cat4 (Nat.le_of_ble_eq_true rfl)) dX8_hasIt_37 hw) (fun x6 h H locs cells slots hR hw => ?_)
    exact r_iret X hR dX8_hasIt_40 hw
  · have hw := hw.2 c3
    refine r_aload_n X dX8_hasIt_20 rfl (lv_at hl 1 rfl) ?_
    refine lv_iload_n hx hb dX8_hasIt_21 rfl (lv_at hl 0 rfl) ?_
    refine r_callI X hR (c_V (ci := 8) (q := (RX8, TX8, 32)) X hR hl.1 (c_X8_refused l g v0 x2) (lw_V q1657 q1659 qs50 q125 q1660) rfl rfl mh_X8_refused rfl (by decide) (by decide) rfl (cat4 (Nat.le_of_ble_eq_true rfl)) dX8_hasIt_22 hw) (fun x7 h H locs cells slots hR hw => ?_)
    refine lv_goto (tgt := 40) hx hb dX8_hasIt_25 (by decide) ?_
    exact r_iret X hR dX8_hasIt_40 hw
theorem c_X8_titleOf (l : Launch) (g : GT) (v0 : Option Nat) (v1 : Int32) (v2 : Int32) : CT qI l yX8_titleOf (ws_ yX8_titleOf cX8_titleOf 4 (Option.some Jvm.ClassFile.FieldType.int)) 7 g [va_rf v0, .int v1, .int v2] (fun K E h => w_X8_titleOf g v0 v1 v2 K E h) := by
  refine CT_of (lv := [(0, va_rf v0), (1, .int v1), (2, .int v2)]) (by decide +kernel) (by simp [lg_sl, cat_rf, cat_int, cat_long]) (by simp [lv_args, cat_rf, cat_int, cat_long]) (fun h0 K E p e s m args below meth c H locs cells slots ls X hxt hmn hw hR hl => ?_)
  have hx := X.hx
  have hb := X.hb
  unfold w_X8_titleOf at hw
  refine r_aload_n X dX8_titleOf_0 rfl (lv_at hl 0 rfl) ?_
  refine lv_iconst (v := 0) hx hb dX8_titleOf_1 (by decide) ?_
  refine r_put X hR fp_X8_45 (Or.inl fn_X8_45) (nf_int _) dX8_titleOf_2 hw (fun H locs h hR hw => ?_)
  refine r_aload_n X dX8_titleOf_5 rfl (lv_at hl 0 rfl) ?_
  refine r_aload_n X dX8_titleOf_6 rfl (lv_at hl 0 rfl) ?_
  refine lv_iload_n hx hb dX8_titleOf_7 rfl (lv_at hl 1 rfl) ?_
  refine r_callI X hR (c_V (ci := 8) (q := (RX8, TX8, 32)) X hR hl.1 (c_X8_isUmbrella l g v0 v1) (lw_V q1945 q1947 qs79 q125 q1948) rfl rfl mh_X8_isUmbrella rfl (by decide) (by decide) rfl (cat4 (Nat.le_of_ble_eq_true rfl)) dX8_titleOf_8 hw) (fun x1 h H locs cells slots hR hw => ?_)
  refine lv_iload_n hx hb dX8_titleOf_11 rfl (lv_at hl 2 rfl) ?_
  refine r_callI X hR (c_V (ci := 8) (q := (RX8, TX8, 32)) X hR hl.1 (c_X8_asks l g v0 x1 v2) (lw_V q1989 q1991 qs84 q125 q1992) rfl rfl mh_X8_asks rfl (by decide) (by decide) rfl (cat4 (Nat.le_of_ble_eq_true rfl)) dX8_titleOf_12 hw) (fun x2 h H locs cells slots hR hw => ?_)
  refine lv_istore_n (i := 3) (lv' := [(3, .int x2), (0, va_rf v0), (1, .int v1), (2, .int v2)]) hx hb dX8_titleOf_15 rfl hl (by decide) rfl (fun ls hl => ?_)
  refine lv_iload_n hx hb dX8_titleOf_16 rfl (lv_at hl 0 rfl) ?_
  refine lv_if_le (tgt := 28) hx hb dX8_titleOf_17 (by decide) (fun c3 => ?_) (fun c3 => ?_)
  · have hw := hw.1 c3
    refine r_aload_n X dX8_titleOf_28 rfl (lv_at hl 1 rfl) ?_
    refine r_aload_n X dX8_titleOf_29 rfl (lv_at hl 1 rfl) ?_
    refine r_gR X hR fk_X8_21 dX8_titleOf_30 hw (fun x4 hw => ?_)
    refine lv_iconst (v := 5) hx hb dX8_titleOf_33 (by decide) ?_
    refine lv_iload_n hx hb dX8_titleOf_34 rfl (lv_at hl 2 rfl) ?_
    refine lv_iadd hx hb dX8_titleOf_35 ?_
    refine r_iald X hR dX8_titleOf_36 hw (fun x5 hw => ?_)
    refine r_callI X hR (c_V (ci := 8) (q := (RX8, TX8, 32)) X hR hl.1 (c_X8_good l g v0 x5) (lw_V q1929 q1931 qs78 q125 q1932) rfl rfl mh_X8_good rfl (by decide) (by decide) rfl (cat4 (Nat.le_of_ble_eq_true rfl)) dX8_titleOf_37 hw) (fun x6 h H locs cells slots hR hw => ?_)
    exact r_iret X hR dX8_titleOf_40 hw
  · have hw := hw.2 c3
    refine r_aload_n X dX8_titleOf_20 rfl (lv_at hl 1 rfl) ?_
    refine lv_iload_n hx hb dX8_titleOf_21 rfl (lv_at hl 0 rfl) ?_
    refine r_callI X hR (c_V (ci := 8) (q := (RX8, TX8, 32)) X hR hl.1 (c_X8_refused l g v0 x2) (lw_V q1657 q1659 qs50 q125 q1660) rfl rfl mh_X8_refused rfl (by decide) (by decide) rfl (cat4 (Nat.le_of_ble_eq_true rfl)) dX8_titleOf_22 hw) (fun x7 h H locs cells slots hR hw => ?_)
    refine lv_goto (tgt := 40) hx hb dX8_titleOf_25 (by decide) ?_
    exact r_iret X hR dX8_titleOf_40 hw
theorem c_X8_landsOf (l : Launch) (g : GT) (v0 : Option Nat) (v1 : Int32) (v2 : Int32) : CT qI l yX8_landsOf (ws_ yX8_landsOf cX8_landsOf 4 (Option.some Jvm.ClassFile.FieldType.int)) 7 g [va_rf v0, .int v1, .int v2] (fun K E h => w_X8_landsOf g v0 v1 v2 K E h) := by
  refine CT_of (lv := [(0, va_rf v0), (1, .int v1), (2, .int v2)]) (by decide +kernel) (by simp [lg_sl, cat_rf, cat_int, cat_long]) (by simp [lv_args, cat_rf, cat_int, cat_long]) (fun h0 K E p e s m args below meth c H locs cells slots ls X hxt hmn hw hR hl => ?_)
  have hx := X.hx
  have hb := X.hb
  unfold w_X8_landsOf at hw
  refine r_aload_n X dX8_landsOf_0 rfl (lv_at hl 0 rfl) ?_
  refine lv_iconst (v := 0) hx hb dX8_landsOf_1 (by decide) ?_
  refine r_put X hR fp_X8_45 (Or.inl fn_X8_45) (nf_int _) dX8_landsOf_2 hw (fun H locs h hR hw => ?_)
  refine r_aload_n X dX8_landsOf_5 rfl (lv_at hl 0 rfl) ?_
  refine r_aload_n X dX8_landsOf_6 rfl (lv_at hl 0 rfl) ?_
  refine lv_iload_n hx hb dX8_landsOf_7 rfl (lv_at hl 1 rfl) ?_
  refine r_callI X hR (c_V (ci := 8) (q := (RX8, TX8, 32)) X hR hl.1 (c_X8_isPerson l g v0 v1) (lw_V q1953 q1955 qs80 q125 q1956) rfl rfl mh_X8_isPerson rfl (by decide) (by decide) rfl (cat4 (Nat.le_of_ble_eq_true rfl)) dX8_landsOf_8 hw) (fun x1 h H locs cells slots hR hw => ?_)
  refine lv_iload_n hx hb dX8_landsOf_11 rfl (lv_at hl 2 rfl) ?_
  refine r_callI X hR (c_V (ci := 8) (q := (RX8, TX8, 32)) X hR hl.1 (c_X8_asks l g v0 x1 v2) (lw_V q1989 q1991 qs84 q125 q1992) rfl rfl mh_X8_asks rfl (by decide) (by decide) rfl (cat4 (Nat.le_of_ble_eq_true rfl)) dX8_landsOf_12 hw) (fun x2 h H locs cells slots hR hw => ?_)
  refine lv_istore_n (i := 3) (lv' := [(3, .int x2), (0, va_rf v0), (1, .int v1), (2, .int v2)]) hx hb dX8_landsOf_15 rfl hl (by decide) rfl (fun ls hl => ?_)
  refine lv_iload_n hx hb dX8_landsOf_16 rfl (lv_at hl 0 rfl) ?_
  refine lv_if_le (tgt := 28) hx hb dX8_landsOf_17 (by decide) (fun c3 => ?_) (fun c3 => ?_)
  · have hw := hw.1 c3
    refine r_aload_n X dX8_landsOf_28 rfl (lv_at hl 1 rfl) ?_
    refine r_aload_n X dX8_landsOf_29 rfl (lv_at hl 1 rfl) ?_
    refine r_aload_n X dX8_landsOf_30 rfl (lv_at hl 1 rfl) ?_
    refine r_gR X hR fk_X8_21 dX8_landsOf_31 hw (fun x4 hw => ?_)
    refine lv_iload_n hx hb dX8_landsOf_34 rfl (lv_at hl 2 rfl) ?_
    refine r_callI X hR (c_V (ci := 8) (q := (RX8, TX8, 32)) X hR hl.1 (c_X8_landsIn l g v0 x4 v1) (lw_V q1961 q1963 qs82 q125 q1964) rfl rfl mh_X8_landsIn rfl (by decide) (by decide) rfl (cat4 (Nat.le_of_ble_eq_true rfl)) dX8_landsOf_35 hw) (fun x5 h H locs cells slots hR hw => ?_)
    refine r_callI X hR (c_V (ci := 8) (q := (RX8, TX8, 32)) X hR hl.1 (c_X8_good l g v0 x5) (lw_V q1929 q1931 qs78 q125 q1932) rfl rfl mh_X8_good rfl (by decide) (by decide) rfl (cat4 (Nat.le_of_ble_eq_true rfl)) dX8_landsOf_38 hw) (fun x6 h H locs cells slots hR hw => ?_)
    exact r_iret X hR dX8_landsOf_41 hw
  · have hw := hw.2 c3
    refine r_aload_n X dX8_landsOf_20 rfl (lv_at hl 1 rfl) ?_
    refine lv_iload_n hx hb dX8_landsOf_21 rfl (lv_at hl 0 rfl) ?_
    refine r_callI X hR (c_V (ci := 8) (q := (RX8, TX8, 32)) X hR hl.1 (c_X8_refused l g v0 x2) (lw_V q1657 q1659 qs50 q125 q1660) rfl rfl mh_X8_refused rfl (by decide) (by decide) rfl (cat4 (Nat.le_of_ble_eq_true rfl)) dX8_landsOf_22 hw) (fun x7 h H locs cells slots hR hw => ?_)
    refine lv_goto (tgt := 41) hx hb dX8_landsOf_25 (by decide) ?_
    exact r_iret X hR dX8_landsOf_41 hw
theorem t_X8_lapsed_J18 {p : Program} {l : Launch} {e : Env} {s : State} {m : MethodId} {args : Array Value} {below : List Frame} {meth : Method} {c : Code} {g : GT} {h0 : AH} {v0 : Option Nat} {v1 : Int32} {s0 : Int32} {s1 : Option Nat} {K : Int32 → AH → Prop} {E : Nat → AH → Prop} {h : AH} {H : Heap} {locs : List Loc} {cells slots : Nat} {ls : Array Slot} (X : Cx g h0 p s m args meth c RX8 cX8_lapsed 3 (Option.some Jvm.ClassFile.FieldType.int))  (hw : w_X8_lapsed_J18 g v0 v1 s0 s1 K E h) (hR : HS g s h H locs) (hl : lv_has ls 3 [(0, va_rf v0), (1, .int v1)]) : W p l e (RM 7 h0) s m args below meth c H locs cells slots (MQT below g (qI K) E args s h0) (F0 m 18 ls [.int s0, va_rf s1]) := by
  have hx := X.hx
  have hb := X.hb
  unfold w_X8_lapsed_J18 at hw
  refine lv_iload_n hx hb dX8_lapsed_18 rfl (lv_at hl 1 rfl) ?_
  refine r_callI X hR (c_V (ci := 8) (q := (RX8, TX8, 32)) X hR hl.1 (c_X8_asks l g s1 s0 v1) (lw_V q1989 q1991 qs84 q125 q1992) rfl rfl mh_X8_asks rfl (by decide) (by decide) rfl (cat4 (Nat.le_of_ble_eq_true rfl)) dX8_lapsed_19 hw) (fun x3 h H locs cells slots hR hw => ?_)
  refine lv_istore_n (i := 2) (lv' := [(2, .int x3), (0, va_rf v0), (1, .int v1)]) hx hb dX8_lapsed_22 rfl hl (by decide) rfl (fun ls hl => ?_)
  refine lv_iload_n hx hb dX8_lapsed_23 rfl (lv_at hl 0 rfl) ?_
  refine lv_if_le (tgt := 35) hx hb dX8_lapsed_24 (by decide) (fun c4 => ?_) (fun c4 => ?_)
  · have hw := hw.1 c4
    refine r_aload_n X dX8_lapsed_35 rfl (lv_at hl 1 rfl) ?_
    refine r_aload_n X dX8_lapsed_36 rfl (lv_at hl 1 rfl) ?_
    refine r_aload_n X dX8_lapsed_37 rfl (lv_at hl 1 rfl) ?_
    refine r_gR X hR fk_X8_21 dX8_lapsed_38 hw (fun x5 hw => ?_)
    refine lv_bipush (v := (-2)) hx hb dX8_lapsed_41 (by decide) ?_
    refine r_callI X hR (c_V (ci := 8) (q := (RX8, TX8, 32)) X hR hl.1 (c_X8_landsIn l g v0 x5 (-2)) (lw_V q1961 q1963 qs82 q125 q1964) rfl rfl mh_X8_landsIn rfl (by decide) (by decide) rfl (cat4 (Nat.le_of_ble_eq_true rfl)) dX8_lapsed_43 hw) (fun x6 h H locs cells slots hR hw => ?_)
    refine r_callI X hR (c_V (ci := 8) (q := (RX8, TX8, 32)) X hR hl.1 (c_X8_good l g v0 x6) (lw_V q1929 q1931 qs78 q125 q1932) rfl rfl mh_X8_good rfl (by decide) (by decide) rfl (cat4 (Nat.le_of_ble_eq_true rfl)) dX8_lapsed_46 hw) (fun x7 h H locs cells slots hR hw => ?_)
    exact r_iret X hR dX8_lapsed_49 hw
  · have hw := hw.2 c4
    refine r_aload_n X dX8_lapsed_27 rfl (lv_at hl 1 rfl) ?_
    refine lv_iload_n hx hb dX8_lapsed_28 rfl (lv_at hl 0 rfl) ?_
    refine r_callI X hR (c_V (ci := 8) (q := (RX8, TX8, 32)) X hR hl.1 (c_X8_refused l g v0 x3) (lw_V q1657 q1659 qs50 q125 q1660) rfl rfl mh_X8_refused rfl (by decide) (by decide) rfl (cat4 (Nat.le_of_ble_eq_true rfl)) dX8_lapsed_29 hw) (fun x8 h H locs cells slots hR hw => ?_)
    refine lv_goto (tgt := 49) hx hb dX8_lapsed_32 (by decide) ?_
    exact r_iret X hR dX8_lapsed_49 hw
theorem c_X8_lapsed (l : Launch) (g : GT) (v0 : Option Nat) (v1 : Int32) : CT qI l yX8_lapsed (ws_ yX8_lapsed cX8_lapsed 3 (Option.some Jvm.ClassFile.FieldType.int)) 7 g [va_rf v0, .int v1] (fun K E h => w_X8_lapsed g v0 v1 K E h) := by
  refine CT_of (lv := [(0, va_rf v0), (1, .int v1)]) (by decide +kernel) (by simp [lg_sl, cat_rf, cat_int, cat_long]) (by simp [lv_args, cat_rf, cat_int, cat_long]) (fun h0 K E p e s m args below meth c H locs cells slots ls X hxt hmn hw hR hl => ?_)
  have hx := X.hx
  have hb := X.hb
  unfold w_X8_lapsed at hw
  refine r_aload_n X dX8_lapsed_0 rfl (lv_at hl 0 rfl) ?_
  refine lv_iconst (v := 0) hx hb dX8_lapsed_1 (by decide) ?_
  refine r_put X hR fp_X8_45 (Or.inl fn_X8_45) (nf_int _) dX8_lapsed_2 hw (fun H locs h hR hw => ?_)
  refine r_aload_n X dX8_lapsed_5 rfl (lv_at hl 0 rfl) ?_
  refine r_aload_n X dX8_lapsed_6 rfl (lv_at hl 0 rfl) ?_
  refine r_gR X hR fk_X8_316 dX8_lapsed_7 hw (fun x1 hw => ?_)
  refine r_ifnull (tgt := 17) X dX8_lapsed_10 (by decide) (fun c2 => ?_) (fun c2 => ?_)
  · have hw := hw.1 c2
    refine lv_iconst (v := 0) hx hb dX8_lapsed_17 (by decide) ?_
    exact t_X8_lapsed_J18 X  hw hR (lv_sub hl [0, 1] rfl)
  · have hw := hw.2 c2
    refine lv_iconst (v := 1) hx hb dX8_lapsed_13 (by decide) ?_
    refine lv_goto (tgt := 18) hx hb dX8_lapsed_14 (by decide) ?_
    exact t_X8_lapsed_J18 X  hw hR (lv_sub hl [0, 1] rfl)
theorem t_X8_passed_J71 {p : Program} {l : Launch} {e : Env} {s : State} {m : MethodId} {args : Array Value} {below : List Frame} {meth : Method} {c : Code} {g : GT} {h0 : AH} {v0 : Option Nat} {v1 : Int32} {v3 : Int32} {s0 : Int32} {s1 : Int32} {K : Int32 → AH → Prop} {E : Nat → AH → Prop} {L31 : Int32 → Int32 → AH → Prop} {h : AH} {H : Heap} {locs : List Loc} {cells slots : Nat} {ls : Array Slot} (X : Cx g h0 p s m args meth c RX8 cX8_passed 5 (Option.some Jvm.ClassFile.FieldType.int)) (k31 : ∀ {v2' : Int32} {v3' : Int32} {h : AH} {H : Heap} {locs : List Loc} {cells slots : Nat} {ls : Array Slot}, L31 v2' v3' h → HS g s h H locs → lv_has ls 5 [(0, va_rf v0), (1, .int v1), (2, .int (v2')), (3, .int (v3'))] → W p l e (RM 5 h0) s m args below meth c H locs cells slots (MQT below g (qI K) E args s h0) (F0 m 31 ls [])) (hw : w_X8_passed_J71 g v0 v1 v3 s0 s1 K E L31 h) (hR : HS g s h H locs) (hl : lv_has ls 5 [(0, va_rf v0), (1, .int v1), (3, .int v3)]) : W p l e (RM 5 h0) s m args below meth c H locs cells slots (MQT below g (qI K) E args s h0) (F0 m 71 ls [.int s0, .int s1]) := by
  have hx := X.hx
  have hb := X.hb
  unfold w_X8_passed_J71 at hw
  refine lv_iadd hx hb dX8_passed_71 ?_
  refine r_nmI hw (fun x11 hw => ?_)
  refine lv_istore_n (i := 2) (lv' := [(2, .int x11), (0, va_rf v0), (1, .int v1), (3, .int v3)]) hx hb dX8_passed_72 rfl hl (by decide) rfl (fun ls hl => ?_)
  refine r_iinc X (k := 3) (v := (v3 + 1)) (lv' := fun x12 => [(3, .int x12), (2, .int x11), (0, va_rf v0), (1, .int v1)]) dX8_passed_73 hl rfl rfl (by decide) hw (fun _ => rfl) (fun x12 hw ls hl => ?_)
  refine lv_goto (tgt := 31) hx hb dX8_passed_76 (by decide) ?_
  exact k31 hw hR (lv_sub hl [2, 3, 1, 0] rfl)
theorem t_X8_passed_L31 {p : Program} {l : Launch} {e : Env} {s : State} {m : MethodId} {args : Array Value} {below : List Frame} {meth : Method} {c : Code} {g : GT} {h0 : AH} {v0 : Option Nat} {v1 : Int32} {K : Int32 → AH → Prop} {E : Nat → AH → Prop} (X : Cx g h0 p s m args meth c RX8 cX8_passed 5 (Option.some Jvm.ClassFile.FieldType.int))  : ∀ (n : Nat) {v2 : Int32} {v3 : Int32} {h : AH} {H : Heap} {locs : List Loc} {cells slots : Nat} {ls : Array Slot}, LpN2 (w_X8_passed_L31 g v0 v1 K E) n v2 v3 h → HS g s h H locs → lv_has ls 5 [(0, va_rf v0), (1, .int v1), (2, .int v2), (3, .int v3)] → W p l e (RM 5 h0) s m args below meth c H locs cells slots (MQT below g (qI K) E args s h0) (F0 m 31 ls []) := by
  have hx := X.hx
  have hb := X.hb
  intro n
  induction n with
  | zero =>
    intro v2 v3 h H locs cells slots ls hw
    exact hw.elim
  | succ n k31 =>
    intro v2 v3 h H locs cells slots ls hw hR hl
    have hw : w_X8_passed_L31 g v0 v1 K E (LpN2 (w_X8_passed_L31 g v0 v1 K E) n) v2 v3 h := hw
    unfold w_X8_passed_L31 at hw
    refine lv_iload_n hx hb dX8_passed_31 rfl (lv_at hl 3 rfl) ?_
    refine lv_bipush (v := 41) hx hb dX8_passed_32 (by decide) ?_
    refine lv_icmp_ge (tgt := 79) hx hb dX8_passed_34 (by decide) (fun c4 => ?_) (fun c4 => ?_)
    · have hw := hw.1 c4
      refine r_aload_n X dX8_passed_79 rfl (lv_at hl 0 rfl) ?_
      refine lv_iload_n hx hb dX8_passed_80 rfl (lv_at hl 2 rfl) ?_
      refine r_callI X hR (c_V (ci := 8) (q := (RX8, TX8, 32)) X hR hl.1 (c_X8_good l g v0 v2) (lw_V q1929 q1931 qs78 q125 q1932) rfl rfl mh_X8_good rfl (by decide) (by decide) rfl (cat4 (Nat.le_of_ble_eq_true rfl)) dX8_passed_81 hw) (fun x5 h H locs cells slots hR hw => ?_)
      exact r_iret X hR dX8_passed_84 hw
    · have hw := hw.2 c4
      refine r_aload_n X dX8_passed_37 rfl (lv_at hl 0 rfl) ?_
      refine r_gR X hR fk_X8_21 dX8_passed_38 hw (fun x6 hw => ?_)
      refine lv_iconst (v := 5) hx hb dX8_passed_41 (by decide) ?_
      refine lv_iload_n hx hb dX8_passed_42 rfl (lv_at hl 1 rfl) ?_
      refine lv_iadd hx hb dX8_passed_43 ?_
      refine r_iald X hR dX8_passed_44 hw (fun x7 hw => ?_)
      refine lv_istore (i := 4) (lv' := [(4, .int x7), (0, va_rf v0), (1, .int v1), (2, .int v2), (3, .int v3)]) hx hb dX8_passed_45 hl (by decide) rfl (fun ls hl => ?_)
      refine r_aload_n X dX8_passed_47 rfl (lv_at hl 1 rfl) ?_
      refine lv_iload_n hx hb dX8_passed_48 rfl (lv_at hl 4 rfl) ?_
      refine r_callV X hR (c_V (ci := 8) (q := (RX8, TX8, 32)) X hR hl.1 (c_X8_goesBy l g v0 v3) (lw_V q1997 q1999 qs86 q125 q2000) rfl rfl mh_X8_goesBy rfl (by decide) (by decide) rfl (cat4 (Nat.le_of_ble_eq_true rfl)) dX8_passed_49 hw) (fun _ h H locs cells slots hR hw => ?_)
      refine lv_iload_n hx hb dX8_passed_52 rfl (lv_at hl 3 rfl) ?_
      refine r_aload_n X dX8_passed_53 rfl (lv_at hl 1 rfl) ?_
      refine r_gR X hR fk_X8_21 dX8_passed_54 hw (fun x8 hw => ?_)
      refine lv_iconst (v := 5) hx hb dX8_passed_57 (by decide) ?_
      refine lv_iload_n hx hb dX8_passed_58 rfl (lv_at hl 2 rfl) ?_
      refine lv_iadd hx hb dX8_passed_59 ?_
      refine r_iald X hR dX8_passed_60 hw (fun x9 hw => ?_)
      refine lv_iload hx hb dX8_passed_61 (lv_at hl 0 rfl) ?_
      refine lv_icmp_ne (tgt := 70) hx hb dX8_passed_63 (by decide) (fun c10 => ?_) (fun c10 => ?_)
      · have hw := hw.1 c10
        refine lv_iconst (v := 1) hx hb dX8_passed_70 (by decide) ?_
        exact t_X8_passed_J71 X k31 hw hR (lv_sub hl [1, 2, 4] rfl)
      · have hw := hw.2 c10
        refine lv_iconst (v := 0) hx hb dX8_passed_66 (by decide) ?_
        refine lv_goto (tgt := 71) hx hb dX8_passed_67 (by decide) ?_
        exact t_X8_passed_J71 X k31 hw hR (lv_sub hl [1, 2, 4] rfl)
theorem c_X8_passed (l : Launch) (g : GT) (v0 : Option Nat) (v1 : Int32) : CT qI l yX8_passed (ws_ yX8_passed cX8_passed 5 (Option.some Jvm.ClassFile.FieldType.int)) 5 g [va_rf v0, .int v1] (fun K E h => w_X8_passed g v0 v1 K E h) := by
  refine CT_of (lv := [(0, va_rf v0), (1, .int v1)]) (by decide +kernel) (by simp [lg_sl, cat_rf, cat_int, cat_long]) (by simp [lv_args, cat_rf, cat_int, cat_long]) (fun h0 K E p e s m args below meth c H locs cells slots ls X hxt hmn hw hR hl => ?_)
  have hx := X.hx
  have hb := X.hb
  unfold w_X8_passed at hw
  refine r_aload_n X dX8_passed_0 rfl (lv_at hl 0 rfl) ?_
  refine lv_iconst (v := 0) hx hb dX8_passed_1 (by decide) ?_
  refine r_put X hR fp_X8_45 (Or.inl fn_X8_45) (nf_int _) dX8_passed_2 hw (fun H locs h hR hw => ?_)
  refine r_aload_n X dX8_passed_5 rfl (lv_at hl 0 rfl) ?_
  refine lv_iload_n hx hb dX8_passed_6 rfl (lv_at hl 1 rfl) ?_
  refine r_callI X hR (c_V (ci := 8) (q := (RX8, TX8, 32)) X hR hl.1 (c_X8_isUmbrella l g v0 v1) (lw_V q1945 q1947 qs79 q125 q1948) rfl rfl mh_X8_isUmbrella rfl (by decide) (by decide) rfl (cat4 (Nat.le_of_ble_eq_true rfl)) dX8_passed_7 hw) (fun x1 h H locs cells slots hR hw => ?_)
  refine lv_if_ne (tgt := 19) hx hb dX8_passed_10 (by decide) (fun c2 => ?_) (fun c2 => ?_)
  · have hw := hw.1 c2
    refine lv_iconst (v := 0) hx hb dX8_passed_19 (by decide) ?_
    refine lv_istore_n (i := 2) (lv' := [(2, .int 0), (0, va_rf v0), (1, .int v1)]) hx hb dX8_passed_20 rfl hl (by decide) rfl (fun ls hl => ?_)
    refine r_aload_n X dX8_passed_21 rfl (lv_at hl 1 rfl) ?_
    refine r_aload_n X dX8_passed_22 rfl (lv_at hl 1 rfl) ?_
    refine r_gR X hR fk_X8_21 dX8_passed_23 hw (fun x3 hw => ?_)
    refine r_callV X hR (c_V (ci := 8) (q := (RX8, TX8, 32)) X hR hl.1 (c_X8_starts l g v0 x3) (lw_V q1921 q1923 qs76 q125 q1924) rfl rfl mh_X8_starts rfl (by decide) (by decide) rfl (cat4 (Nat.le_of_ble_eq_true rfl)) dX8_passed_26 hw) (fun _ h H locs cells slots hR hw => ?_)
    refine lv_iconst (v := 0) hx hb dX8_passed_29 (by decide) ?_
    refine lv_istore_n (i := 3) (lv' := [(3, .int 0), (2, .int 0), (0, va_rf v0), (1, .int v1)]) hx hb dX8_passed_30 rfl hl (by decide) rfl (fun ls hl => ?_)
    obtain ⟨n, hw⟩ := hw
    exact t_X8_passed_L31 X  n hw hR (lv_sub hl [2, 3, 1, 0] rfl)
  · have hw := hw.2 c2
    refine r_aload_n X dX8_passed_13 rfl (lv_at hl 0 rfl) ?_
    refine lv_iconst (v := 1) hx hb dX8_passed_14 (by decide) ?_
    refine r_callI X hR (c_V (ci := 8) (q := (RX8, TX8, 32)) X hR hl.1 (c_X8_refused l g v0 1) (lw_V q1657 q1659 qs50 q125 q1660) rfl rfl mh_X8_refused rfl (by decide) (by decide) rfl (cat4 (Nat.le_of_ble_eq_true rfl)) dX8_passed_15 hw) (fun x13 h H locs cells slots hR hw => ?_)
    exact r_iret X hR dX8_passed_18 hw
theorem t_X8_longest_J96 {p : Program} {l : Launch} {e : Env} {s : State} {m : MethodId} {args : Array Value} {below : List Frame} {meth : Method} {c : Code} {g : GT} {h0 : AH} {v0 : Option Nat} {v1 : Int32} {v2 : Int32} {v3 : Int32} {v4 : Int32} {v5 : Int32} {K : Int32 → AH → Prop} {E : Nat → AH → Prop} {L38 : Int32 → Int32 → Int32 → Int32 → AH → Prop} {h : AH} {H : Heap} {locs : List Loc} {cells slots : Nat} {ls : Array Slot} (X : Cx g h0 p s m args meth c RX8 cX8_longest 6 (Option.some Jvm.ClassFile.FieldType.int)) (k38 : ∀ {v2' : Int32} {v3' : Int32} {v4' : Int32} {v5' : Int32} {h : AH} {H : Heap} {locs : List Loc} {cells slots : Nat} {ls : Array Slot}, L38 v2' v3' v4' v5' h → HS g s h H locs → lv_has ls 6 [(0, va_rf v0), (1, .int v1), (2, .int (v2')), (3, .int (v3')), (4, .int (v4')), (5, .int (v5'))] → W p l e (RM 5 h0) s m args below meth c H locs cells slots (MQT below g (qI K) E args s h0) (F0 m 38 ls [])) (hw : w_X8_longest_J96 g v0 v1 v2 v3 v4 v5 K E L38 h) (hR : HS g s h H locs) (hl : lv_has ls 6 [(0, va_rf v0), (1, .int v1), (2, .int v2), (3, .int v3), (4, .int v4), (5, .int v5)]) : W p l e (RM 5 h0) s m args below meth c H locs cells slots (MQT below g (qI K) E args s h0) (F0 m 96 ls []) := by
  have hx := X.hx
  have hb := X.hb
  unfold w_X8_longest_J96 at hw
  refine r_iinc X (k := 5) (v := (v5 + 1)) (lv' := fun x12 => [(5, .int x12), (0, va_rf v0), (1, .int v1), (2, .int v2), (3, .int v3), (4, .int v4)]) dX8_longest_96 hl rfl rfl (by decide) hw (fun _ => rfl) (fun x12 hw ls hl => ?_)
  refine lv_goto (tgt := 38) hx hb dX8_longest_99 (by decide) ?_
  exact k38 hw hR (lv_sub hl [1, 2, 3, 4, 5, 0] rfl)
theorem t_X8_longest_J71 {p : Program} {l : Launch} {e : Env} {s : State} {m : MethodId} {args : Array Value} {below : List Frame} {meth : Method} {c : Code} {g : GT} {h0 : AH} {v0 : Option Nat} {v1 : Int32} {v2 : Int32} {v5 : Int32} {s0 : Int32} {K : Int32 → AH → Prop} {E : Nat → AH → Prop} {L38 : Int32 → Int32 → Int32 → Int32 → AH → Prop} {h : AH} {H : Heap} {locs : List Loc} {cells slots : Nat} {ls : Array Slot} (X : Cx g h0 p s m args meth c RX8 cX8_longest 6 (Option.some Jvm.ClassFile.FieldType.int)) (k38 : ∀ {v2' : Int32} {v3' : Int32} {v4' : Int32} {v5' : Int32} {h : AH} {H : Heap} {locs : List Loc} {cells slots : Nat} {ls : Array Slot}, L38 v2' v3' v4' v5' h → HS g s h H locs → lv_has ls 6 [(0, va_rf v0), (1, .int v1), (2, .int (v2')), (3, .int (v3')), (4, .int (v4')), (5, .int (v5'))] → W p l e (RM 5 h0) s m args below meth c H locs cells slots (MQT below g (qI K) E args s h0) (F0 m 38 ls [])) (hw : w_X8_longest_J71 g v0 v1 v2 v5 s0 K E L38 h) (hR : HS g s h H locs) (hl : lv_has ls 6 [(0, va_rf v0), (1, .int v1), (2, .int v2), (5, .int v5)]) : W p l e (RM 5 h0) s m args below meth c H locs cells slots (MQT below g (qI K) E args s h0) (F0 m 71 ls [.int s0]) := by
  have hx := X.hx
  have hb := X.hb
  unfold w_X8_longest_J71 at hw
  refine lv_istore_n (i := 3) (lv' := [(3, .int s0), (0, va_rf v0), (1, .int v1), (2, .int v2), (5, .int v5)]) hx hb dX8_longest_71 rfl hl (by decide) rfl (fun ls hl => ?_)
  refine r_aload_n X dX8_longest_72 rfl (lv_at hl 1 rfl) ?_
  refine r_gR X hR fk_X8_21 dX8_longest_73 hw (fun x9 hw => ?_)
  refine lv_iconst (v := 5) hx hb dX8_longest_76 (by decide) ?_
  refine lv_iload_n hx hb dX8_longest_77 rfl (lv_at hl 2 rfl) ?_
  refine lv_iadd hx hb dX8_longest_78 ?_
  refine r_iald X hR dX8_longest_79 hw (fun x10 hw => ?_)
  refine lv_istore (i := 4) (lv' := [(4, .int x10), (3, .int s0), (0, va_rf v0), (1, .int v1), (2, .int v2), (5, .int v5)]) hx hb dX8_longest_80 hl (by decide) rfl (fun ls hl => ?_)
  refine lv_iload hx hb dX8_longest_82 (lv_at hl 0 rfl) ?_
  refine lv_bipush (v := (-2)) hx hb dX8_longest_84 (by decide) ?_
  refine lv_icmp_eq (tgt := 96) hx hb dX8_longest_86 (by decide) (fun c11 => ?_) (fun c11 => ?_)
  · have hw := hw.1 c11
    exact t_X8_longest_J96 X k38 hw hR (lv_sub hl [2, 3, 4, 1, 0, 5] rfl)
  · have hw := hw.2 c11
    refine lv_iload_n hx hb dX8_longest_89 rfl (lv_at hl 1 rfl) ?_
    refine lv_iload_n hx hb dX8_longest_90 rfl (lv_at hl 4 rfl) ?_
    refine lv_icmp_le (tgt := 96) hx hb dX8_longest_91 (by decide) (fun c13 => ?_) (fun c13 => ?_)
    · have hw := hw.1 c13
      exact t_X8_longest_J96 X k38 hw hR (lv_sub hl [2, 3, 4, 1, 0, 5] rfl)
    · have hw := hw.2 c13
      refine lv_iload_n hx hb dX8_longest_94 rfl (lv_at hl 1 rfl) ?_
      refine lv_istore_n (i := 2) (lv' := [(2, .int s0), (4, .int x10), (3, .int s0), (0, va_rf v0), (1, .int v1), (5, .int v5)]) hx hb dX8_longest_95 rfl hl (by decide) rfl (fun ls hl => ?_)
      exact t_X8_longest_J96 X k38 hw hR (lv_sub hl [3, 4, 0, 2, 1, 5] rfl)
theorem t_X8_longest_L38 {p : Program} {l : Launch} {e : Env} {s : State} {m : MethodId} {args : Array Value} {below : List Frame} {meth : Method} {c : Code} {g : GT} {h0 : AH} {v0 : Option Nat} {v1 : Int32} {K : Int32 → AH → Prop} {E : Nat → AH → Prop} (X : Cx g h0 p s m args meth c RX8 cX8_longest 6 (Option.some Jvm.ClassFile.FieldType.int))  : ∀ (n : Nat) {v2 : Int32} {v3 : Int32} {v4 : Int32} {v5 : Int32} {h : AH} {H : Heap} {locs : List Loc} {cells slots : Nat} {ls : Array Slot}, LpN4 (w_X8_longest_L38 g v0 v1 K E) n v2 v3 v4 v5 h → HS g s h H locs → lv_has ls 6 [(0, va_rf v0), (1, .int v1), (2, .int v2), (3, .int v3), (4, .int v4), (5, .int v5)] → W p l e (RM 5 h0) s m args below meth c H locs cells slots (MQT below g (qI K) E args s h0) (F0 m 38 ls []) := by
  have hx := X.hx
  have hb := X.hb
  intro n
  induction n with
  | zero =>
    intro v2 v3 v4 v5 h H locs cells slots ls hw
    exact hw.elim
  | succ n k38 =>
    intro v2 v3 v4 v5 h H locs cells slots ls hw hR hl
    have hw : w_X8_longest_L38 g v0 v1 K E (LpN4 (w_X8_longest_L38 g v0 v1 K E) n) v2 v3 v4 v5 h := hw
    unfold w_X8_longest_L38 at hw
    refine lv_iload hx hb dX8_longest_38 (lv_at hl 5 rfl) ?_
    refine lv_bipush (v := 41) hx hb dX8_longest_40 (by decide) ?_
    refine lv_icmp_ge (tgt := 102) hx hb dX8_longest_42 (by decide) (fun c4 => ?_) (fun c4 => ?_)
    · have hw := hw.1 c4
      refine r_aload_n X dX8_longest_102 rfl (lv_at hl 0 rfl) ?_
      refine lv_iload_n hx hb dX8_longest_103 rfl (lv_at hl 2 rfl) ?_
      refine r_callI X hR (c_V (ci := 8) (q := (RX8, TX8, 32)) X hR hl.1 (c_X8_good l g v0 v2) (lw_V q1929 q1931 qs78 q125 q1932) rfl rfl mh_X8_good rfl (by decide) (by decide) rfl (cat4 (Nat.le_of_ble_eq_true rfl)) dX8_longest_104 hw) (fun x5 h H locs cells slots hR hw => ?_)
      exact r_iret X hR dX8_longest_107 hw
    · have hw := hw.2 c4
      refine r_aload_n X dX8_longest_45 rfl (lv_at hl 0 rfl) ?_
      refine lv_iload hx hb dX8_longest_46 (lv_at hl 5 rfl) ?_
      refine r_callV X hR (c_V (ci := 8) (q := (RX8, TX8, 32)) X hR hl.1 (c_X8_goesBy l g v0 v5) (lw_V q1997 q1999 qs86 q125 q2000) rfl rfl mh_X8_goesBy rfl (by decide) (by decide) rfl (cat4 (Nat.le_of_ble_eq_true rfl)) dX8_longest_48 hw) (fun _ h H locs cells slots hR hw => ?_)
      refine r_aload_n X dX8_longest_51 rfl (lv_at hl 0 rfl) ?_
      refine r_gR X hR fk_X8_21 dX8_longest_52 hw (fun x6 hw => ?_)
      refine lv_iconst (v := 5) hx hb dX8_longest_55 (by decide) ?_
      refine lv_iload_n hx hb dX8_longest_56 rfl (lv_at hl 1 rfl) ?_
      refine lv_iadd hx hb dX8_longest_57 ?_
      refine r_iald X hR dX8_longest_58 hw (fun x7 hw => ?_)
      refine lv_iload hx hb dX8_longest_59 (lv_at hl 4 rfl) ?_
      refine lv_icmp_ne (tgt := 70) hx hb dX8_longest_61 (by decide) (fun c8 => ?_) (fun c8 => ?_)
      · have hw := hw.1 c8
        refine lv_iconst (v := 1) hx hb dX8_longest_70 (by decide) ?_
        exact t_X8_longest_J71 X k38 hw hR (lv_sub hl [0, 1, 2, 5] rfl)
      · have hw := hw.2 c8
        refine lv_iload_n hx hb dX8_longest_64 rfl (lv_at hl 3 rfl) ?_
        refine lv_iconst (v := 1) hx hb dX8_longest_65 (by decide) ?_
        refine lv_iadd hx hb dX8_longest_66 ?_
        refine lv_goto (tgt := 71) hx hb dX8_longest_67 (by decide) ?_
        exact t_X8_longest_J71 X k38 hw hR (lv_sub hl [0, 1, 2, 5] rfl)
theorem c_X8_longest (l : Launch) (g : GT) (v0 : Option Nat) (v1 : Int32) : CT qI l yX8_longest (ws_ yX8_longest cX8_longest 6 (Option.some Jvm.ClassFile.FieldType.int)) 5 g [va_rf v0, .int v1] (fun K E h => w_X8_longest g v0 v1 K E h) := by
  refine CT_of (lv := [(0, va_rf v0), (1, .int v1)]) (by decide +kernel) (by simp [lg_sl, cat_rf, cat_int, cat_long]) (by simp [lv_args, cat_rf, cat_int, cat_long]) (fun h0 K E p e s m args below meth c H locs cells slots ls X hxt hmn hw hR hl => ?_)
  have hx := X.hx
  have hb := X.hb
  unfold w_X8_longest at hw
  refine r_aload_n X dX8_longest_0 rfl (lv_at hl 0 rfl) ?_
  refine lv_iconst (v := 0) hx hb dX8_longest_1 (by decide) ?_
  refine r_put X hR fp_X8_45 (Or.inl fn_X8_45) (nf_int _) dX8_longest_2 hw (fun H locs h hR hw => ?_)
  refine r_aload_n X dX8_longest_5 rfl (lv_at hl 0 rfl) ?_
  refine lv_iload_n hx hb dX8_longest_6 rfl (lv_at hl 1 rfl) ?_
  refine r_callI X hR (c_V (ci := 8) (q := (RX8, TX8, 32)) X hR hl.1 (c_X8_isUmbrella l g v0 v1) (lw_V q1945 q1947 qs79 q125 q1948) rfl rfl mh_X8_isUmbrella rfl (by decide) (by decide) rfl (cat4 (Nat.le_of_ble_eq_true rfl)) dX8_longest_7 hw) (fun x1 h H locs cells slots hR hw => ?_)
  refine lv_if_ne (tgt := 19) hx hb dX8_longest_10 (by decide) (fun c2 => ?_) (fun c2 => ?_)
  · have hw := hw.1 c2
    refine lv_iconst (v := 0) hx hb dX8_longest_19 (by decide) ?_
    refine lv_istore_n (i := 2) (lv' := [(2, .int 0), (0, va_rf v0), (1, .int v1)]) hx hb dX8_longest_20 rfl hl (by decide) rfl (fun ls hl => ?_)
    refine lv_iconst (v := 0) hx hb dX8_longest_21 (by decide) ?_
    refine lv_istore_n (i := 3) (lv' := [(3, .int 0), (2, .int 0), (0, va_rf v0), (1, .int v1)]) hx hb dX8_longest_22 rfl hl (by decide) rfl (fun ls hl => ?_)
    refine lv_bipush (v := (-2)) hx hb dX8_longest_23 (by decide) ?_
    refine lv_istore (i := 4) (lv' := [(4, .int (-2)), (3, .int 0), (2, .int 0), (0, va_rf v0), (1, .int v1)]) hx hb dX8_longest_25 hl (by decide) rfl (fun ls hl => ?_)
    refine r_aload_n X dX8_longest_27 rfl (lv_at hl 3 rfl) ?_
    refine r_aload_n X dX8_longest_28 rfl (lv_at hl 3 rfl) ?_
    refine r_gR X hR fk_X8_21 dX8_longest_29 hw (fun x3 hw => ?_)
    refine r_callV X hR (c_V (ci := 8) (q := (RX8, TX8, 32)) X hR hl.1 (c_X8_starts l g v0 x3) (lw_V q1921 q1923 qs76 q125 q1924) rfl rfl mh_X8_starts rfl (by decide) (by decide) rfl (cat4 (Nat.le_of_ble_eq_true rfl)) dX8_longest_32 hw) (fun _ h H locs cells slots hR hw => ?_)
    refine lv_iconst (v := 0) hx hb dX8_longest_35 (by decide) ?_
    refine lv_istore (i := 5) (lv' := [(5, .int 0), (4, .int (-2)), (3, .int 0), (2, .int 0), (0, va_rf v0), (1, .int v1)]) hx hb dX8_longest_36 hl (by decide) rfl (fun ls hl => ?_)
    obtain ⟨n, hw⟩ := hw
    exact t_X8_longest_L38 X  n hw hR (lv_sub hl [4, 5, 3, 2, 1, 0] rfl)
  · have hw := hw.2 c2
    refine r_aload_n X dX8_longest_13 rfl (lv_at hl 0 rfl) ?_
    refine lv_iconst (v := 1) hx hb dX8_longest_14 (by decide) ?_
    refine r_callI X hR (c_V (ci := 8) (q := (RX8, TX8, 32)) X hR hl.1 (c_X8_refused l g v0 1) (lw_V q1657 q1659 qs50 q125 q1660) rfl rfl mh_X8_refused rfl (by decide) (by decide) rfl (cat4 (Nat.le_of_ble_eq_true rfl)) dX8_longest_15 hw) (fun x14 h H locs cells slots hR hw => ?_)
    exact r_iret X hR dX8_longest_18 hw
theorem t_X8_worstDay_J73 {p : Program} {l : Launch} {e : Env} {s : State} {m : MethodId} {args : Array Value} {below : List Frame} {meth : Method} {c : Code} {g : GT} {h0 : AH} {v0 : Option Nat} {v1 : Int32} {v2 : Int32} {v3 : Int32} {K : Int32 → AH → Prop} {E : Nat → AH → Prop} {L32 : Int32 → Int32 → Int32 → AH → Prop} {h : AH} {H : Heap} {locs : List Loc} {cells slots : Nat} {ls : Array Slot} (X : Cx g h0 p s m args meth c RX8 cX8_worstDay 4 (Option.some Jvm.ClassFile.FieldType.int)) (k32 : ∀ {v1' : Int32} {v2' : Int32} {v3' : Int32} {h : AH} {H : Heap} {locs : List Loc} {cells slots : Nat} {ls : Array Slot}, L32 v1' v2' v3' h → HS g s h H locs → lv_has ls 4 [(0, va_rf v0), (1, .int (v1')), (2, .int (v2')), (3, .int (v3'))] → W p l e (RM 5 h0) s m args below meth c H locs cells slots (MQT below g (qI K) E args s h0) (F0 m 32 ls [])) (hw : w_X8_worstDay_J73 g v0 v1 v2 v3 K E L32 h) (hR : HS g s h H locs) (hl : lv_has ls 4 [(0, va_rf v0), (1, .int v1), (2, .int v2), (3, .int v3)]) : W p l e (RM 5 h0) s m args below meth c H locs cells slots (MQT below g (qI K) E args s h0) (F0 m 73 ls []) := by
  have hx := X.hx
  have hb := X.hb
  unfold w_X8_worstDay_J73 at hw
  refine r_iinc X (k := 3) (v := (v3 + 1)) (lv' := fun x11 => [(3, .int x11), (0, va_rf v0), (1, .int v1), (2, .int v2)]) dX8_worstDay_73 hl rfl rfl (by decide) hw (fun _ => rfl) (fun x11 hw ls hl => ?_)
  refine lv_goto (tgt := 32) hx hb dX8_worstDay_76 (by decide) ?_
  exact k32 hw hR (lv_sub hl [1, 2, 3, 0] rfl)
theorem t_X8_worstDay_L32 {p : Program} {l : Launch} {e : Env} {s : State} {m : MethodId} {args : Array Value} {below : List Frame} {meth : Method} {c : Code} {g : GT} {h0 : AH} {v0 : Option Nat} {K : Int32 → AH → Prop} {E : Nat → AH → Prop} (X : Cx g h0 p s m args meth c RX8 cX8_worstDay 4 (Option.some Jvm.ClassFile.FieldType.int))  : ∀ (n : Nat) {v1 : Int32} {v2 : Int32} {v3 : Int32} {h : AH} {H : Heap} {locs : List Loc} {cells slots : Nat} {ls : Array Slot}, LpN3 (w_X8_worstDay_L32 g v0 K E) n v1 v2 v3 h → HS g s h H locs → lv_has ls 4 [(0, va_rf v0), (1, .int v1), (2, .int v2), (3, .int v3)] → W p l e (RM 5 h0) s m args below meth c H locs cells slots (MQT below g (qI K) E args s h0) (F0 m 32 ls []) := by
  have hx := X.hx
  have hb := X.hb
  intro n
  induction n with
  | zero =>
    intro v1 v2 v3 h H locs cells slots ls hw
    exact hw.elim
  | succ n k32 =>
    intro v1 v2 v3 h H locs cells slots ls hw hR hl
    have hw : w_X8_worstDay_L32 g v0 K E (LpN3 (w_X8_worstDay_L32 g v0 K E) n) v1 v2 v3 h := hw
    unfold w_X8_worstDay_L32 at hw
    refine lv_iload_n hx hb dX8_worstDay_32 rfl (lv_at hl 3 rfl) ?_
    refine lv_bipush (v := 41) hx hb dX8_worstDay_33 (by decide) ?_
    refine lv_icmp_ge (tgt := 79) hx hb dX8_worstDay_35 (by decide) (fun c4 => ?_) (fun c4 => ?_)
    · have hw := hw.1 c4
      refine r_aload_n X dX8_worstDay_79 rfl (lv_at hl 0 rfl) ?_
      refine lv_iload_n hx hb dX8_worstDay_80 rfl (lv_at hl 1 rfl) ?_
      refine r_callI X hR (c_V (ci := 8) (q := (RX8, TX8, 32)) X hR hl.1 (c_X8_good l g v0 v1) (lw_V q1929 q1931 qs78 q125 q1932) rfl rfl mh_X8_good rfl (by decide) (by decide) rfl (cat4 (Nat.le_of_ble_eq_true rfl)) dX8_worstDay_81 hw) (fun x5 h H locs cells slots hR hw => ?_)
      exact r_iret X hR dX8_worstDay_84 hw
    · have hw := hw.2 c4
      refine r_aload_n X dX8_worstDay_38 rfl (lv_at hl 0 rfl) ?_
      refine lv_iload_n hx hb dX8_worstDay_39 rfl (lv_at hl 3 rfl) ?_
      refine r_callV X hR (c_V (ci := 8) (q := (RX8, TX8, 32)) X hR hl.1 (c_X8_goesBy l g v0 v3) (lw_V q1997 q1999 qs86 q125 q2000) rfl rfl mh_X8_goesBy rfl (by decide) (by decide) rfl (cat4 (Nat.le_of_ble_eq_true rfl)) dX8_worstDay_40 hw) (fun _ h H locs cells slots hR hw => ?_)
      refine r_aload_n X dX8_worstDay_43 rfl (lv_at hl 0 rfl) ?_
      refine r_aload_n X dX8_worstDay_44 rfl (lv_at hl 0 rfl) ?_
      refine r_gR X hR fk_X8_21 dX8_worstDay_45 hw (fun x6 hw => ?_)
      refine lv_bipush (v := (-2)) hx hb dX8_worstDay_48 (by decide) ?_
      refine r_callI X hR (c_V (ci := 8) (q := (RX8, TX8, 32)) X hR hl.1 (c_X8_landsIn l g v0 x6 (-2)) (lw_V q1961 q1963 qs82 q125 q1964) rfl rfl mh_X8_landsIn rfl (by decide) (by decide) rfl (cat4 (Nat.le_of_ble_eq_true rfl)) dX8_worstDay_50 hw) (fun x7 h H locs cells slots hR hw => ?_)
      refine lv_iload_n hx hb dX8_worstDay_53 rfl (lv_at hl 2 rfl) ?_
      refine lv_icmp_gt (tgt := 60) hx hb dX8_worstDay_54 (by decide) (fun c8 => ?_) (fun c8 => ?_)
      · have hw := hw.1 c8
        refine r_aload_n X dX8_worstDay_60 rfl (lv_at hl 0 rfl) ?_
        refine r_aload_n X dX8_worstDay_61 rfl (lv_at hl 0 rfl) ?_
        refine r_gR X hR fk_X8_21 dX8_worstDay_62 hw (fun x9 hw => ?_)
        refine lv_bipush (v := (-2)) hx hb dX8_worstDay_65 (by decide) ?_
        refine r_callI X hR (c_V (ci := 8) (q := (RX8, TX8, 32)) X hR hl.1 (c_X8_landsIn l g v0 x9 (-2)) (lw_V q1961 q1963 qs82 q125 q1964) rfl rfl mh_X8_landsIn rfl (by decide) (by decide) rfl (cat4 (Nat.le_of_ble_eq_true rfl)) dX8_worstDay_67 hw) (fun x10 h H locs cells slots hR hw => ?_)
        refine lv_istore_n (i := 2) (lv' := [(2, .int x10), (0, va_rf v0), (1, .int v1), (3, .int v3)]) hx hb dX8_worstDay_70 rfl hl (by decide) rfl (fun ls hl => ?_)
        refine lv_iload_n hx hb dX8_worstDay_71 rfl (lv_at hl 3 rfl) ?_
        refine lv_istore_n (i := 1) (lv' := [(1, .int v3), (2, .int x10), (0, va_rf v0), (3, .int v3)]) hx hb dX8_worstDay_72 rfl hl (by decide) (by simp [cat_rf, cat_int, cat_long]) (fun ls hl => ?_)
        exact t_X8_worstDay_J73 X k32 hw hR (lv_sub hl [2, 0, 1, 3] rfl)
      · have hw := hw.2 c8
        refine lv_goto (tgt := 73) hx hb dX8_worstDay_57 (by decide) ?_
        exact t_X8_worstDay_J73 X k32 hw hR (lv_sub hl [0, 1, 2, 3] rfl)
theorem c_X8_worstDay (l : Launch) (g : GT) (v0 : Option Nat) : CT qI l yX8_worstDay (ws_ yX8_worstDay cX8_worstDay 4 (Option.some Jvm.ClassFile.FieldType.int)) 5 g [va_rf v0] (fun K E h => w_X8_worstDay g v0 K E h) := by
  refine CT_of (lv := [(0, va_rf v0)]) (by decide +kernel) (by simp [lg_sl, cat_rf, cat_int, cat_long]) (by simp [lv_args, cat_rf, cat_int, cat_long]) (fun h0 K E p e s m args below meth c H locs cells slots ls X hxt hmn hw hR hl => ?_)
  have hx := X.hx
  have hb := X.hb
  unfold w_X8_worstDay at hw
  refine r_aload_n X dX8_worstDay_0 rfl (lv_at hl 0 rfl) ?_
  refine lv_iconst (v := 0) hx hb dX8_worstDay_1 (by decide) ?_
  refine r_put X hR fp_X8_45 (Or.inl fn_X8_45) (nf_int _) dX8_worstDay_2 hw (fun H locs h hR hw => ?_)
  refine r_aload_n X dX8_worstDay_5 rfl (lv_at hl 0 rfl) ?_
  refine r_gR X hR fk_X8_316 dX8_worstDay_6 hw (fun x1 hw => ?_)
  refine r_ifnonnull (tgt := 18) X dX8_worstDay_9 (by decide) (fun c2 => ?_) (fun c2 => ?_)
  · have hw := hw.1 c2
    refine lv_iconst (v := 0) hx hb dX8_worstDay_18 (by decide) ?_
    refine lv_istore_n (i := 1) (lv' := [(1, .int 0), (0, va_rf v0)]) hx hb dX8_worstDay_19 rfl hl (by decide) (by simp [cat_rf, cat_int, cat_long]) (fun ls hl => ?_)
    refine lv_iconst (v := (-1)) hx hb dX8_worstDay_20 (by decide) ?_
    refine lv_istore_n (i := 2) (lv' := [(2, .int (-1)), (1, .int 0), (0, va_rf v0)]) hx hb dX8_worstDay_21 rfl hl (by decide) rfl (fun ls hl => ?_)
    refine r_aload_n X dX8_worstDay_22 rfl (lv_at hl 2 rfl) ?_
    refine r_aload_n X dX8_worstDay_23 rfl (lv_at hl 2 rfl) ?_
    refine r_gR X hR fk_X8_21 dX8_worstDay_24 hw (fun x3 hw => ?_)
    refine r_callV X hR (c_V (ci := 8) (q := (RX8, TX8, 32)) X hR hl.1 (c_X8_starts l g v0 x3) (lw_V q1921 q1923 qs76 q125 q1924) rfl rfl mh_X8_starts rfl (by decide) (by decide) rfl (cat4 (Nat.le_of_ble_eq_true rfl)) dX8_worstDay_27 hw) (fun _ h H locs cells slots hR hw => ?_)
    refine lv_iconst (v := 0) hx hb dX8_worstDay_30 (by decide) ?_
    refine lv_istore_n (i := 3) (lv' := [(3, .int 0), (2, .int (-1)), (1, .int 0), (0, va_rf v0)]) hx hb dX8_worstDay_31 rfl hl (by decide) rfl (fun ls hl => ?_)
    obtain ⟨n, hw⟩ := hw
    exact t_X8_worstDay_L32 X  n hw hR (lv_sub hl [3, 2, 1, 0] rfl)
  · have hw := hw.2 c2
    refine r_aload_n X dX8_worstDay_12 rfl (lv_at hl 0 rfl) ?_
    refine lv_iconst (v := 1) hx hb dX8_worstDay_13 (by decide) ?_
    refine r_callI X hR (c_V (ci := 8) (q := (RX8, TX8, 32)) X hR hl.1 (c_X8_refused l g v0 1) (lw_V q1657 q1659 qs50 q125 q1660) rfl rfl mh_X8_refused rfl (by decide) (by decide) rfl (cat4 (Nat.le_of_ble_eq_true rfl)) dX8_worstDay_14 hw) (fun x12 h H locs cells slots hR hw => ?_)
    exact r_iret X hR dX8_worstDay_17 hw
theorem t_X8_wrongClaim_J120 {p : Program} {l : Launch} {e : Env} {s : State} {m : MethodId} {args : Array Value} {below : List Frame} {meth : Method} {c : Code} {g : GT} {h0 : AH} {v0 : Option Nat} {v1 : Int32} {v2 : Int32} {v3 : Int32} {v4 : Int32} {v5 : Int32} {K : Int32 → AH → Prop} {E : Nat → AH → Prop} {L15 : Int32 → Int32 → AH → Prop} {h : AH} {H : Heap} {locs : List Loc} {cells slots : Nat} {ls : Array Slot} (X : Cx g h0 p s m args meth c RX8 cX8_wrongClaim 7 (Option.some Jvm.ClassFile.FieldType.int)) (k15 : ∀ {v4' : Int32} {v5' : Int32} {h : AH} {H : Heap} {locs : List Loc} {cells slots : Nat} {ls : Array Slot}, L15 v4' v5' h → HS g s h H locs → lv_has ls 7 [(0, va_rf v0), (1, .int v1), (2, .int v2), (3, .int v3), (4, .int (v4')), (5, .int (v5'))] → W p l e (RM 5 h0) s m args below meth c H locs cells slots (MQT below g (qI K) E args s h0) (F0 m 15 ls [])) (hw : w_X8_wrongClaim_J120 g v0 v1 v2 v3 v4 v5 K E L15 h) (hR : HS g s h H locs) (hl : lv_has ls 7 [(0, va_rf v0), (1, .int v1), (2, .int v2), (3, .int v3), (4, .int v4), (5, .int v5)]) : W p l e (RM 5 h0) s m args below meth c H locs cells slots (MQT below g (qI K) E args s h0) (F0 m 120 ls []) := by
  have hx := X.hx
  have hb := X.hb
  unfold w_X8_wrongClaim_J120 at hw
  refine r_iinc X (k := 5) (v := (v5 + 1)) (lv' := fun x6 => [(5, .int x6), (0, va_rf v0), (1, .int v1), (2, .int v2), (3, .int v3), (4, .int v4)]) dX8_wrongClaim_120 hl rfl rfl (by decide) hw (fun _ => rfl) (fun x6 hw ls hl => ?_)
  refine lv_goto (tgt := 15) hx hb dX8_wrongClaim_123 (by decide) ?_
  exact k15 hw hR (lv_sub hl [1, 2, 3, 4, 5, 0] rfl)
theorem t_X8_wrongClaim_J114 {p : Program} {l : Launch} {e : Env} {s : State} {m : MethodId} {args : Array Value} {below : List Frame} {meth : Method} {c : Code} {g : GT} {h0 : AH} {v0 : Option Nat} {v1 : Int32} {v2 : Int32} {v3 : Int32} {v4 : Int32} {v5 : Int32} {v6 : Int32} {K : Int32 → AH → Prop} {E : Nat → AH → Prop} {L46 : Int32 → Int32 → AH → Prop} {h : AH} {H : Heap} {locs : List Loc} {cells slots : Nat} {ls : Array Slot} (X : Cx g h0 p s m args meth c RX8 cX8_wrongClaim 7 (Option.some Jvm.ClassFile.FieldType.int)) (k46 : ∀ {v4' : Int32} {v6' : Int32} {h : AH} {H : Heap} {locs : List Loc} {cells slots : Nat} {ls : Array Slot}, L46 v4' v6' h → HS g s h H locs → lv_has ls 7 [(0, va_rf v0), (1, .int v1), (2, .int v2), (3, .int v3), (4, .int (v4')), (5, .int v5), (6, .int (v6'))] → W p l e (RM 5 h0) s m args below meth c H locs cells slots (MQT below g (qI K) E args s h0) (F0 m 46 ls [])) (hw : w_X8_wrongClaim_J114 g v0 v1 v2 v3 v4 v5 v6 K E L46 h) (hR : HS g s h H locs) (hl : lv_has ls 7 [(0, va_rf v0), (1, .int v1), (2, .int v2), (3, .int v3), (4, .int v4), (5, .int v5), (6, .int v6)]) : W p l e (RM 5 h0) s m args below meth c H locs cells slots (MQT below g (qI K) E args s h0) (F0 m 114 ls []) := by
  have hx := X.hx
  have hb := X.hb
  unfold w_X8_wrongClaim_J114 at hw
  refine r_iinc X (k := 6) (v := (v6 + 1)) (lv' := fun x14 => [(6, .int x14), (0, va_rf v0), (1, .int v1), (2, .int v2), (3, .int v3), (4, .int v4), (5, .int v5)]) dX8_wrongClaim_114 hl rfl rfl (by decide) hw (fun _ => rfl) (fun x14 hw ls hl => ?_)
  refine lv_goto (tgt := 46) hx hb dX8_wrongClaim_117 (by decide) ?_
  exact k46 hw hR (lv_sub hl [1, 2, 3, 4, 5, 6, 0] rfl)
theorem t_X8_wrongClaim_L46 {p : Program} {l : Launch} {e : Env} {s : State} {m : MethodId} {args : Array Value} {below : List Frame} {meth : Method} {c : Code} {g : GT} {h0 : AH} {v0 : Option Nat} {v1 : Int32} {v2 : Int32} {v3 : Int32} {v5 : Int32} {K : Int32 → AH → Prop} {E : Nat → AH → Prop} {L15 : Int32 → Int32 → AH → Prop} (X : Cx g h0 p s m args meth c RX8 cX8_wrongClaim 7 (Option.some Jvm.ClassFile.FieldType.int)) (k15 : ∀ {v4' : Int32} {v5' : Int32} {h : AH} {H : Heap} {locs : List Loc} {cells slots : Nat} {ls : Array Slot}, L15 v4' v5' h → HS g s h H locs → lv_has ls 7 [(0, va_rf v0), (1, .int v1), (2, .int v2), (3, .int v3), (4, .int (v4')), (5, .int (v5'))] → W p l e (RM 5 h0) s m args below meth c H locs cells slots (MQT below g (qI K) E args s h0) (F0 m 15 ls [])) : ∀ (n : Nat) {v4 : Int32} {v6 : Int32} {h : AH} {H : Heap} {locs : List Loc} {cells slots : Nat} {ls : Array Slot}, LpN2 (w_X8_wrongClaim_L46 g v0 v1 v2 v3 v5 K E L15) n v4 v6 h → HS g s h H locs → lv_has ls 7 [(0, va_rf v0), (1, .int v1), (2, .int v2), (3, .int v3), (4, .int v4), (5, .int v5), (6, .int v6)] → W p l e (RM 5 h0) s m args below meth c H locs cells slots (MQT below g (qI K) E args s h0) (F0 m 46 ls []) := by
  have hx := X.hx
  have hb := X.hb
  intro n
  induction n with
  | zero =>
    intro v4 v6 h H locs cells slots ls hw
    exact hw.elim
  | succ n k46 =>
    intro v4 v6 h H locs cells slots ls hw hR hl
    have hw : w_X8_wrongClaim_L46 g v0 v1 v2 v3 v5 K E L15 (LpN2 (w_X8_wrongClaim_L46 g v0 v1 v2 v3 v5 K E L15) n) v4 v6 h := hw
    unfold w_X8_wrongClaim_L46 at hw
    refine lv_iload hx hb dX8_wrongClaim_46 (lv_at hl 6 rfl) ?_
    refine lv_iload hx hb dX8_wrongClaim_48 (lv_at hl 4 rfl) ?_
    refine lv_icmp_ge (tgt := 120) hx hb dX8_wrongClaim_50 (by decide) (fun c5 => ?_) (fun c5 => ?_)
    · have hw := hw.1 c5
      exact t_X8_wrongClaim_J120 X k15 hw hR (lv_sub hl [0, 1, 2, 3, 4, 5] rfl)
    · have hw := hw.2 c5
      refine lv_iload hx hb dX8_wrongClaim_53 (lv_at hl 6 rfl) ?_
      refine r_aload_n X dX8_wrongClaim_55 rfl (lv_at hl 0 rfl) ?_
      refine r_gR X hR fk_X8_316 dX8_wrongClaim_56 hw (fun x7 hw => ?_)
      refine r_gI X hR fk_X8_298 dX8_wrongClaim_59 hw (fun x8 hw => ?_)
      refine lv_icmp_ge (tgt := 120) hx hb dX8_wrongClaim_62 (by decide) (fun c9 => ?_) (fun c9 => ?_)
      · have hw := hw.1 c9
        exact t_X8_wrongClaim_J120 X k15 hw hR (lv_sub hl [0, 1, 2, 3, 4, 5] rfl)
      · have hw := hw.2 c9
        refine r_aload_n X dX8_wrongClaim_65 rfl (lv_at hl 0 rfl) ?_
        refine r_gR X hR fk_X8_316 dX8_wrongClaim_66 hw (fun x10 hw => ?_)
        refine r_gR X hR fk_X8_306 dX8_wrongClaim_69 hw (fun x11 hw => ?_)
        refine lv_iload hx hb dX8_wrongClaim_72 (lv_at hl 6 rfl) ?_
        refine r_iald X hR dX8_wrongClaim_74 hw (fun x12 hw => ?_)
        refine lv_iload hx hb dX8_wrongClaim_75 (lv_at hl 5 rfl) ?_
        refine lv_icmp_ne (tgt := 114) hx hb dX8_wrongClaim_77 (by decide) (fun c13 => ?_) (fun c13 => ?_)
        · have hw := hw.1 c13
          exact t_X8_wrongClaim_J114 X k46 hw hR (lv_sub hl [0, 1, 2, 3, 4, 5, 6] rfl)
        · have hw := hw.2 c13
          refine r_aload_n X dX8_wrongClaim_80 rfl (lv_at hl 0 rfl) ?_
          refine r_gR X hR fk_X8_21 dX8_wrongClaim_81 hw (fun x15 hw => ?_)
          refine lv_iconst (v := 5) hx hb dX8_wrongClaim_84 (by decide) ?_
          refine r_aload_n X dX8_wrongClaim_85 rfl (lv_at hl 0 rfl) ?_
          refine r_gR X hR fk_X8_316 dX8_wrongClaim_86 hw (fun x16 hw => ?_)
          refine r_gR X hR fk_X8_303 dX8_wrongClaim_89 hw (fun x17 hw => ?_)
          refine lv_iload hx hb dX8_wrongClaim_92 (lv_at hl 6 rfl) ?_
          refine r_iald X hR dX8_wrongClaim_94 hw (fun x18 hw => ?_)
          refine lv_iadd hx hb dX8_wrongClaim_95 ?_
          refine r_iald X hR dX8_wrongClaim_96 hw (fun x19 hw => ?_)
          refine r_aload_n X dX8_wrongClaim_97 rfl (lv_at hl 0 rfl) ?_
          refine r_gR X hR fk_X8_316 dX8_wrongClaim_98 hw (fun x20 hw => ?_)
          refine r_gR X hR fk_X8_300 dX8_wrongClaim_101 hw (fun x21 hw => ?_)
          refine lv_iload hx hb dX8_wrongClaim_104 (lv_at hl 6 rfl) ?_
          refine r_iald X hR dX8_wrongClaim_106 hw (fun x22 hw => ?_)
          refine lv_icmp_eq (tgt := 114) hx hb dX8_wrongClaim_107 (by decide) (fun c23 => ?_) (fun c23 => ?_)
          · have hw := hw.1 c23
            exact t_X8_wrongClaim_J114 X k46 hw hR (lv_sub hl [0, 1, 2, 3, 4, 5, 6] rfl)
          · have hw := hw.2 c23
            refine lv_iload hx hb dX8_wrongClaim_110 (lv_at hl 6 rfl) ?_
            refine lv_istore (i := 4) (lv' := [(4, .int v6), (0, va_rf v0), (1, .int v1), (2, .int v2), (3, .int v3), (5, .int v5), (6, .int v6)]) hx hb dX8_wrongClaim_112 hl (by decide) rfl (fun ls hl => ?_)
            exact t_X8_wrongClaim_J114 X k46 hw hR (lv_sub hl [1, 2, 3, 4, 0, 5, 6] rfl)
theorem t_X8_wrongClaim_J37 {p : Program} {l : Launch} {e : Env} {s : State} {m : MethodId} {args : Array Value} {below : List Frame} {meth : Method} {c : Code} {g : GT} {h0 : AH} {v0 : Option Nat} {v1 : Int32} {v2 : Int32} {v3 : Int32} {v4 : Int32} {v5 : Int32} {K : Int32 → AH → Prop} {E : Nat → AH → Prop} {L15 : Int32 → Int32 → AH → Prop} {h : AH} {H : Heap} {locs : List Loc} {cells slots : Nat} {ls : Array Slot} (X : Cx g h0 p s m args meth c RX8 cX8_wrongClaim 7 (Option.some Jvm.ClassFile.FieldType.int)) (k15 : ∀ {v4' : Int32} {v5' : Int32} {h : AH} {H : Heap} {locs : List Loc} {cells slots : Nat} {ls : Array Slot}, L15 v4' v5' h → HS g s h H locs → lv_has ls 7 [(0, va_rf v0), (1, .int v1), (2, .int v2), (3, .int v3), (4, .int (v4')), (5, .int (v5'))] → W p l e (RM 5 h0) s m args below meth c H locs cells slots (MQT below g (qI K) E args s h0) (F0 m 15 ls [])) (hw : w_X8_wrongClaim_J37 g v0 v1 v2 v3 v4 v5 K E L15 h) (hR : HS g s h H locs) (hl : lv_has ls 7 [(0, va_rf v0), (1, .int v1), (2, .int v2), (3, .int v3), (4, .int v4), (5, .int v5)]) : W p l e (RM 5 h0) s m args below meth c H locs cells slots (MQT below g (qI K) E args s h0) (F0 m 37 ls []) := by
  have hx := X.hx
  have hb := X.hb
  unfold w_X8_wrongClaim_J37 at hw
  refine r_aload_n X dX8_wrongClaim_37 rfl (lv_at hl 0 rfl) ?_
  refine lv_iload hx hb dX8_wrongClaim_38 (lv_at hl 5 rfl) ?_
  refine r_callV X hR (c_V (ci := 8) (q := (RX8, TX8, 32)) X hR hl.1 (c_X8_goesBy l g v0 v5) (lw_V q1997 q1999 qs86 q125 q2000) rfl rfl mh_X8_goesBy rfl (by decide) (by decide) rfl (cat4 (Nat.le_of_ble_eq_true rfl)) dX8_wrongClaim_40 hw) (fun _ h H locs cells slots hR hw => ?_)
  refine lv_iconst (v := 0) hx hb dX8_wrongClaim_43 (by decide) ?_
  refine lv_istore (i := 6) (lv' := [(6, .int 0), (0, va_rf v0), (1, .int v1), (2, .int v2), (3, .int v3), (4, .int v4), (5, .int v5)]) hx hb dX8_wrongClaim_44 hl (by decide) rfl (fun ls hl => ?_)
  obtain ⟨n, hw⟩ := hw
  exact t_X8_wrongClaim_L46 X k15 n hw hR (lv_sub hl [1, 2, 3, 4, 5, 6, 0] rfl)
theorem t_X8_wrongClaim_L15 {p : Program} {l : Launch} {e : Env} {s : State} {m : MethodId} {args : Array Value} {below : List Frame} {meth : Method} {c : Code} {g : GT} {h0 : AH} {v0 : Option Nat} {v1 : Int32} {v2 : Int32} {v3 : Int32} {K : Int32 → AH → Prop} {E : Nat → AH → Prop} (X : Cx g h0 p s m args meth c RX8 cX8_wrongClaim 7 (Option.some Jvm.ClassFile.FieldType.int))  : ∀ (n : Nat) {v4 : Int32} {v5 : Int32} {h : AH} {H : Heap} {locs : List Loc} {cells slots : Nat} {ls : Array Slot}, LpN2 (w_X8_wrongClaim_L15 g v0 v1 v2 v3 K E) n v4 v5 h → HS g s h H locs → lv_has ls 7 [(0, va_rf v0), (1, .int v1), (2, .int v2), (3, .int v3), (4, .int v4), (5, .int v5)] → W p l e (RM 5 h0) s m args below meth c H locs cells slots (MQT below g (qI K) E args s h0) (F0 m 15 ls []) := by
  have hx := X.hx
  have hb := X.hb
  intro n
  induction n with
  | zero =>
    intro v4 v5 h H locs cells slots ls hw
    exact hw.elim
  | succ n k15 =>
    intro v4 v5 h H locs cells slots ls hw hR hl
    have hw : w_X8_wrongClaim_L15 g v0 v1 v2 v3 K E (LpN2 (w_X8_wrongClaim_L15 g v0 v1 v2 v3 K E) n) v4 v5 h := hw
    unfold w_X8_wrongClaim_L15 at hw
    refine lv_iload hx hb dX8_wrongClaim_15 (lv_at hl 5 rfl) ?_
    refine lv_bipush (v := 41) hx hb dX8_wrongClaim_17 (by decide) ?_
    refine lv_icmp_ge (tgt := 126) hx hb dX8_wrongClaim_19 (by decide) (fun c2 => ?_) (fun c2 => ?_)
    · have hw := hw.1 c2
      refine lv_iload hx hb dX8_wrongClaim_126 (lv_at hl 4 rfl) ?_
      refine lv_bipush (v := 6) hx hb dX8_wrongClaim_128 (by decide) ?_
      refine lv_icmp_ne (tgt := 138) hx hb dX8_wrongClaim_130 (by decide) (fun c3 => ?_) (fun c3 => ?_)
      · have hw := hw.1 c3
        refine lv_iload hx hb dX8_wrongClaim_138 (lv_at hl 4 rfl) ?_
        exact r_iret X hR dX8_wrongClaim_140 hw
      · have hw := hw.2 c3
        refine lv_bipush (v := (-2)) hx hb dX8_wrongClaim_133 (by decide) ?_
        refine lv_goto (tgt := 140) hx hb dX8_wrongClaim_135 (by decide) ?_
        exact r_iret X hR dX8_wrongClaim_140 hw
    · have hw := hw.2 c2
      refine lv_iload hx hb dX8_wrongClaim_22 (lv_at hl 5 rfl) ?_
      refine lv_iload_n hx hb dX8_wrongClaim_24 rfl (lv_at hl 1 rfl) ?_
      refine lv_icmp_ne (tgt := 37) hx hb dX8_wrongClaim_25 (by decide) (fun c4 => ?_) (fun c4 => ?_)
      · have hw := hw.1 c4
        exact t_X8_wrongClaim_J37 X k15 hw hR (lv_sub hl [0, 1, 2, 3, 4, 5] rfl)
      · have hw := hw.2 c4
        refine r_aload_n X dX8_wrongClaim_28 rfl (lv_at hl 0 rfl) ?_
        refine r_gR X hR fk_X8_21 dX8_wrongClaim_29 hw (fun x24 hw => ?_)
        refine lv_iload_n hx hb dX8_wrongClaim_32 rfl (lv_at hl 2 rfl) ?_
        refine lv_iload_n hx hb dX8_wrongClaim_33 rfl (lv_at hl 3 rfl) ?_
        refine r_callV X hR (c_S X hR hl.1 (c_X8_changes l g x24 v2 v3) (lw_S q2005 q2006 q125 q2007) mh_X8_changes rfl (by decide) (by decide) rfl (cat4 (Nat.le_of_ble_eq_true rfl)) dX8_wrongClaim_34 hw) (fun _ h H locs cells slots hR hw => ?_)
        exact t_X8_wrongClaim_J37 X k15 hw hR (lv_sub hl [0, 1, 2, 3, 4, 5] rfl)
theorem c_X8_wrongClaim (l : Launch) (g : GT) (v0 : Option Nat) (v1 : Int32) (v2 : Int32) (v3 : Int32) : CT qI l yX8_wrongClaim (ws_ yX8_wrongClaim cX8_wrongClaim 7 (Option.some Jvm.ClassFile.FieldType.int)) 5 g [va_rf v0, .int v1, .int v2, .int v3] (fun K E h => w_X8_wrongClaim g v0 v1 v2 v3 K E h) := by
  refine CT_of (lv := [(0, va_rf v0), (1, .int v1), (2, .int v2), (3, .int v3)]) (by decide +kernel) (by simp [lg_sl, cat_rf, cat_int, cat_long]) (by simp [lv_args, cat_rf, cat_int, cat_long]) (fun h0 K E p e s m args below meth c H locs cells slots ls X hxt hmn hw hR hl => ?_)
  have hx := X.hx
  have hb := X.hb
  unfold w_X8_wrongClaim at hw
  refine lv_bipush (v := 6) hx hb dX8_wrongClaim_0 (by decide) ?_
  refine lv_istore (i := 4) (lv' := [(4, .int 6), (0, va_rf v0), (1, .int v1), (2, .int v2), (3, .int v3)]) hx hb dX8_wrongClaim_2 hl (by decide) rfl (fun ls hl => ?_)
  refine r_aload_n X dX8_wrongClaim_4 rfl (lv_at hl 1 rfl) ?_
  refine r_aload_n X dX8_wrongClaim_5 rfl (lv_at hl 1 rfl) ?_
  refine r_gR X hR fk_X8_21 dX8_wrongClaim_6 hw (fun x1 hw => ?_)
  refine r_callV X hR (c_V (ci := 8) (q := (RX8, TX8, 32)) X hR hl.1 (c_X8_starts l g v0 x1) (lw_V q1921 q1923 qs76 q125 q1924) rfl rfl mh_X8_starts rfl (by decide) (by decide) rfl (cat4 (Nat.le_of_ble_eq_true rfl)) dX8_wrongClaim_9 hw) (fun _ h H locs cells slots hR hw => ?_)
  refine lv_iconst (v := 0) hx hb dX8_wrongClaim_12 (by decide) ?_
  refine lv_istore (i := 5) (lv' := [(5, .int 0), (4, .int 6), (0, va_rf v0), (1, .int v1), (2, .int v2), (3, .int v3)]) hx hb dX8_wrongClaim_13 hl (by decide) rfl (fun ls hl => ?_)
  obtain ⟨n, hw⟩ := hw
  exact t_X8_wrongClaim_L15 X  n hw hR (lv_sub hl [2, 3, 4, 5, 1, 0] rfl)
theorem c_X8_judge (l : Launch) (g : GT) (v0 : Option Nat) : CT qI l yX8_judge (ws_ yX8_judge cX8_judge 1 (Option.some Jvm.ClassFile.FieldType.int)) 6 g [va_rf v0] (fun K E h => w_X8_judge g v0 K E h) := by
  refine CT_of (lv := [(0, va_rf v0)]) (by decide +kernel) (by simp [lg_sl, cat_rf, cat_int, cat_long]) (by simp [lv_args, cat_rf, cat_int, cat_long]) (fun h0 K E p e s m args below meth c H locs cells slots ls X hxt hmn hw hR hl => ?_)
  have hx := X.hx
  have hb := X.hb
  unfold w_X8_judge at hw
  refine r_aload_n X dX8_judge_0 rfl (lv_at hl 0 rfl) ?_
  refine lv_iconst (v := 0) hx hb dX8_judge_1 (by decide) ?_
  refine r_put X hR fp_X8_45 (Or.inl fn_X8_45) (nf_int _) dX8_judge_2 hw (fun H locs h hR hw => ?_)
  refine r_aload_n X dX8_judge_5 rfl (lv_at hl 0 rfl) ?_
  refine r_gR X hR fk_X8_316 dX8_judge_6 hw (fun x1 hw => ?_)
  refine r_ifnonnull (tgt := 20) X dX8_judge_9 (by decide) (fun c2 => ?_) (fun c2 => ?_)
  · have hw := hw.1 c2
    refine r_aload_n X dX8_judge_20 rfl (lv_at hl 0 rfl) ?_
    refine r_aload_n X dX8_judge_21 rfl (lv_at hl 0 rfl) ?_
    refine lv_iconst (v := (-1)) hx hb dX8_judge_22 (by decide) ?_
    refine lv_iconst (v := 0) hx hb dX8_judge_23 (by decide) ?_
    refine lv_iconst (v := 0) hx hb dX8_judge_24 (by decide) ?_
    refine r_callI X hR (c_V (ci := 8) (q := (RX8, TX8, 32)) X hR hl.1 (c_X8_wrongClaim l g v0 (-1) 0 0) (lw_V q2051 q2053 qs91 q125 q2054) rfl rfl mh_X8_wrongClaim rfl (by decide) (by decide) rfl (cat4 (Nat.le_of_ble_eq_true rfl)) dX8_judge_25 hw) (fun x3 h H locs cells slots hR hw => ?_)
    refine r_callI X hR (c_V (ci := 8) (q := (RX8, TX8, 32)) X hR hl.1 (c_X8_good l g v0 x3) (lw_V q1929 q1931 qs78 q125 q1932) rfl rfl mh_X8_good rfl (by decide) (by decide) rfl (cat4 (Nat.le_of_ble_eq_true rfl)) dX8_judge_28 hw) (fun x4 h H locs cells slots hR hw => ?_)
    exact r_iret X hR dX8_judge_31 hw
  · have hw := hw.2 c2
    refine r_aload_n X dX8_judge_12 rfl (lv_at hl 0 rfl) ?_
    refine lv_iconst (v := 1) hx hb dX8_judge_13 (by decide) ?_
    refine r_callI X hR (c_V (ci := 8) (q := (RX8, TX8, 32)) X hR hl.1 (c_X8_refused l g v0 1) (lw_V q1657 q1659 qs50 q125 q1660) rfl rfl mh_X8_refused rfl (by decide) (by decide) rfl (cat4 (Nat.le_of_ble_eq_true rfl)) dX8_judge_14 hw) (fun x5 h H locs cells slots hR hw => ?_)
    refine lv_goto (tgt := 31) hx hb dX8_judge_17 (by decide) ?_
    exact r_iret X hR dX8_judge_31 hw
theorem t_X8_countsWays_J122 {p : Program} {l : Launch} {e : Env} {s : State} {m : MethodId} {args : Array Value} {below : List Frame} {meth : Method} {c : Code} {g : GT} {h0 : AH} {v0 : Option Nat} {v1 : Int32} {v2 : Int32} {v3 : Int32} {K : Int32 → AH → Prop} {E : Nat → AH → Prop} {L34 : Int32 → Int32 → AH → Prop} {h : AH} {H : Heap} {locs : List Loc} {cells slots : Nat} {ls : Array Slot} (X : Cx g h0 p s m args meth c RX8 cX8_countsWays 6 (Option.some Jvm.ClassFile.FieldType.int)) (k34 : ∀ {v2' : Int32} {v3' : Int32} {h : AH} {H : Heap} {locs : List Loc} {cells slots : Nat} {ls : Array Slot}, L34 v2' v3' h → HS g s h H locs → lv_has ls 6 [(0, va_rf v0), (1, .int v1), (2, .int (v2')), (3, .int (v3'))] → W p l e (RM 6 h0) s m args below meth c H locs cells slots (MQT below g (qI K) E args s h0) (F0 m 34 ls [])) (hw : w_X8_countsWays_J122 g v0 v1 v2 v3 K E L34 h) (hR : HS g s h H locs) (hl : lv_has ls 6 [(0, va_rf v0), (1, .int v1), (2, .int v2), (3, .int v3)]) : W p l e (RM 6 h0) s m args below meth c H locs cells slots (MQT below g (qI K) E args s h0) (F0 m 122 ls []) := by
  have hx := X.hx
  have hb := X.hb
  unfold w_X8_countsWays_J122 at hw
  refine r_iinc X (k := 3) (v := (v3 + 1)) (lv' := fun x7 => [(3, .int x7), (0, va_rf v0), (1, .int v1), (2, .int v2)]) dX8_countsWays_122 hl rfl rfl (by decide) hw (fun _ => rfl) (fun x7 hw ls hl => ?_)
  refine lv_goto (tgt := 34) hx hb dX8_countsWays_125 (by decide) ?_
  exact k34 hw hR (lv_sub hl [1, 2, 3, 0] rfl)
theorem t_X8_countsWays_J119 {p : Program} {l : Launch} {e : Env} {s : State} {m : MethodId} {args : Array Value} {below : List Frame} {meth : Method} {c : Code} {g : GT} {h0 : AH} {v0 : Option Nat} {v1 : Int32} {v2 : Int32} {v3 : Int32} {K : Int32 → AH → Prop} {E : Nat → AH → Prop} {L34 : Int32 → Int32 → AH → Prop} {h : AH} {H : Heap} {locs : List Loc} {cells slots : Nat} {ls : Array Slot} (X : Cx g h0 p s m args meth c RX8 cX8_countsWays 6 (Option.some Jvm.ClassFile.FieldType.int)) (k34 : ∀ {v2' : Int32} {v3' : Int32} {h : AH} {H : Heap} {locs : List Loc} {cells slots : Nat} {ls : Array Slot}, L34 v2' v3' h → HS g s h H locs → lv_has ls 6 [(0, va_rf v0), (1, .int v1), (2, .int (v2')), (3, .int (v3'))] → W p l e (RM 6 h0) s m args below meth c H locs cells slots (MQT below g (qI K) E args s h0) (F0 m 34 ls [])) (hw : w_X8_countsWays_J119 g v0 v1 v2 v3 K E L34 h) (hR : HS g s h H locs) (hl : lv_has ls 6 [(0, va_rf v0), (1, .int v1), (2, .int v2), (3, .int v3)]) : W p l e (RM 6 h0) s m args below meth c H locs cells slots (MQT below g (qI K) E args s h0) (F0 m 119 ls []) := by
  have hx := X.hx
  have hb := X.hb
  unfold w_X8_countsWays_J119 at hw
  refine r_iinc X (k := 2) (v := (v2 + 1)) (lv' := fun x17 => [(2, .int x17), (0, va_rf v0), (1, .int v1), (3, .int v3)]) dX8_countsWays_119 hl rfl rfl (by decide) hw (fun _ => rfl) (fun x17 hw ls hl => ?_)
  exact t_X8_countsWays_J122 X k34 hw hR (lv_sub hl [1, 2, 0, 3] rfl)
theorem t_X8_countsWays_L34 {p : Program} {l : Launch} {e : Env} {s : State} {m : MethodId} {args : Array Value} {below : List Frame} {meth : Method} {c : Code} {g : GT} {h0 : AH} {v0 : Option Nat} {v1 : Int32} {K : Int32 → AH → Prop} {E : Nat → AH → Prop} (X : Cx g h0 p s m args meth c RX8 cX8_countsWays 6 (Option.some Jvm.ClassFile.FieldType.int))  : ∀ (n : Nat) {v2 : Int32} {v3 : Int32} {h : AH} {H : Heap} {locs : List Loc} {cells slots : Nat} {ls : Array Slot}, LpN2 (w_X8_countsWays_L34 g v0 v1 K E) n v2 v3 h → HS g s h H locs → lv_has ls 6 [(0, va_rf v0), (1, .int v1), (2, .int v2), (3, .int v3)] → W p l e (RM 6 h0) s m args below meth c H locs cells slots (MQT below g (qI K) E args s h0) (F0 m 34 ls []) := by
  have hx := X.hx
  have hb := X.hb
  intro n
  induction n with
  | zero =>
    intro v2 v3 h H locs cells slots ls hw
    exact hw.elim
  | succ n k34 =>
    intro v2 v3 h H locs cells slots ls hw hR hl
    have hw : w_X8_countsWays_L34 g v0 v1 K E (LpN2 (w_X8_countsWays_L34 g v0 v1 K E) n) v2 v3 h := hw
    unfold w_X8_countsWays_L34 at hw
    refine lv_iload_n hx hb dX8_countsWays_34 rfl (lv_at hl 3 rfl) ?_
    refine lv_sipush (v := 4100) hx hb dX8_countsWays_35 (by decide) ?_
    refine lv_icmp_ge (tgt := 128) hx hb dX8_countsWays_38 (by decide) (fun c3 => ?_) (fun c3 => ?_)
    · have hw := hw.1 c3
      refine lv_iload_n hx hb dX8_countsWays_128 rfl (lv_at hl 2 rfl) ?_
      exact r_iret X hR dX8_countsWays_129 hw
    · have hw := hw.2 c3
      refine lv_iload_n hx hb dX8_countsWays_41 rfl (lv_at hl 3 rfl) ?_
      refine lv_bipush (v := 10) hx hb dX8_countsWays_42 (by decide) ?_
      refine lv_idiv hx hb dX8_countsWays_44 (by decide) ?_
      refine lv_bipush (v := 10) hx hb dX8_countsWays_45 (by decide) ?_
      refine lv_irem hx hb dX8_countsWays_47 (by decide) ?_
      refine r_nmI hw (fun x4 hw => ?_)
      refine lv_istore (i := 4) (lv' := [(4, .int x4), (0, va_rf v0), (1, .int v1), (2, .int v2), (3, .int v3)]) hx hb dX8_countsWays_48 hl (by decide) rfl (fun ls hl => ?_)
      refine lv_iload_n hx hb dX8_countsWays_50 rfl (lv_at hl 4 rfl) ?_
      refine lv_bipush (v := 10) hx hb dX8_countsWays_51 (by decide) ?_
      refine lv_irem hx hb dX8_countsWays_53 (by decide) ?_
      refine r_nmI hw (fun x5 hw => ?_)
      refine lv_istore (i := 5) (lv' := [(5, .int x5), (4, .int x4), (0, va_rf v0), (1, .int v1), (2, .int v2), (3, .int v3)]) hx hb dX8_countsWays_54 hl (by decide) rfl (fun ls hl => ?_)
      refine lv_iload hx hb dX8_countsWays_56 (lv_at hl 1 rfl) ?_
      refine lv_iload hx hb dX8_countsWays_58 (lv_at hl 0 rfl) ?_
      refine lv_icmp_ge (tgt := 122) hx hb dX8_countsWays_60 (by decide) (fun c6 => ?_) (fun c6 => ?_)
      · have hw := hw.1 c6
        exact t_X8_countsWays_J122 X k34 hw hR (lv_sub hl [2, 3, 4, 5] rfl)
      · have hw := hw.2 c6
        refine lv_iload hx hb dX8_countsWays_63 (lv_at hl 0 rfl) ?_
        refine r_aload_n X dX8_countsWays_65 rfl (lv_at hl 2 rfl) ?_
        refine r_gR X hR fk_X8_316 dX8_countsWays_66 hw (fun x8 hw => ?_)
        refine r_gI X hR fk_X8_194 dX8_countsWays_69 hw (fun x9 hw => ?_)
        refine lv_icmp_ge (tgt := 122) hx hb dX8_countsWays_72 (by decide) (fun c10 => ?_) (fun c10 => ?_)
        · have hw := hw.1 c10
          exact t_X8_countsWays_J122 X k34 hw hR (lv_sub hl [2, 3, 4, 5] rfl)
        · have hw := hw.2 c10
          refine r_aload_n X dX8_countsWays_75 rfl (lv_at hl 2 rfl) ?_
          refine r_gR X hR fk_X8_316 dX8_countsWays_76 hw (fun x11 hw => ?_)
          refine lv_iload hx hb dX8_countsWays_79 (lv_at hl 1 rfl) ?_
          refine lv_iload hx hb dX8_countsWays_81 (lv_at hl 0 rfl) ?_
          refine r_callI X hR (c_V (ci := 26) (q := (RX26, TX26, 23)) X hR hl.1 (c_X26_areAlike l g x11 x4 x5) (lw_V q1969 q1970 q1971 q150 q1972) rfl rfl mh_X26_areAlike rfl (by decide) (by decide) rfl (cat4 (Nat.le_of_ble_eq_true rfl)) dX8_countsWays_83 hw) (fun x12 h H locs cells slots hR hw => ?_)
          refine lv_if_eq (tgt := 122) hx hb dX8_countsWays_86 (by decide) (fun c13 => ?_) (fun c13 => ?_)
          · have hw := hw.1 c13
            exact t_X8_countsWays_J122 X k34 hw hR (lv_sub hl [2, 3, 4, 5] rfl)
          · have hw := hw.2 c13
            refine r_aload_n X dX8_countsWays_89 rfl (lv_at hl 2 rfl) ?_
            refine lv_iload_n hx hb dX8_countsWays_90 rfl (lv_at hl 5 rfl) ?_
            refine lv_bipush (v := 100) hx hb dX8_countsWays_91 (by decide) ?_
            refine lv_idiv hx hb dX8_countsWays_93 (by decide) ?_
            refine lv_iload hx hb dX8_countsWays_94 (lv_at hl 1 rfl) ?_
            refine lv_iload hx hb dX8_countsWays_96 (lv_at hl 0 rfl) ?_
            refine r_callI X hR (c_V (ci := 8) (q := (RX8, TX8, 32)) X hR hl.1 (c_X8_wrongClaim l g v0 (v3 / 100) x4 x5) (lw_V q2051 q2053 qs91 q125 q2054) rfl rfl mh_X8_wrongClaim rfl (by decide) (by decide) rfl (cat4 (Nat.le_of_ble_eq_true rfl)) dX8_countsWays_98 hw) (fun x14 h H locs cells slots hR hw => ?_)
            refine lv_bipush (v := (-2)) hx hb dX8_countsWays_101 (by decide) ?_
            refine lv_icmp_eq (tgt := 109) hx hb dX8_countsWays_103 (by decide) (fun c15 => ?_) (fun c15 => ?_)
            · have hw := hw.1 c15
              refine lv_iload_n hx hb dX8_countsWays_109 rfl (lv_at hl 4 rfl) ?_
              refine lv_iload_n hx hb dX8_countsWays_110 rfl (lv_at hl 3 rfl) ?_
              refine lv_icmp_ne (tgt := 119) hx hb dX8_countsWays_111 (by decide) (fun c16 => ?_) (fun c16 => ?_)
              · have hw := hw.1 c16
                exact t_X8_countsWays_J119 X k34 hw hR (lv_sub hl [2, 3, 4, 5] rfl)
              · have hw := hw.2 c16
                refine r_aload_n X dX8_countsWays_114 rfl (lv_at hl 2 rfl) ?_
                refine lv_iload_n hx hb dX8_countsWays_115 rfl (lv_at hl 5 rfl) ?_
                refine r_put X hR fp_X8_387 (Or.inl fn_X8_387) (nf_int _) dX8_countsWays_116 hw (fun H locs h hR hw => ?_)
                exact t_X8_countsWays_J119 X k34 hw hR (lv_sub hl [2, 3, 4, 5] rfl)
            · have hw := hw.2 c15
              refine lv_goto (tgt := 122) hx hb dX8_countsWays_106 (by decide) ?_
              exact t_X8_countsWays_J122 X k34 hw hR (lv_sub hl [2, 3, 4, 5] rfl)
theorem t_X8_countsWays_J32 {p : Program} {l : Launch} {e : Env} {s : State} {m : MethodId} {args : Array Value} {below : List Frame} {meth : Method} {c : Code} {g : GT} {h0 : AH} {v0 : Option Nat} {v1 : Int32} {v2 : Int32} {K : Int32 → AH → Prop} {E : Nat → AH → Prop} {h : AH} {H : Heap} {locs : List Loc} {cells slots : Nat} {ls : Array Slot} (X : Cx g h0 p s m args meth c RX8 cX8_countsWays 6 (Option.some Jvm.ClassFile.FieldType.int))  (hw : w_X8_countsWays_J32 g v0 v1 v2 K E h) (hR : HS g s h H locs) (hl : lv_has ls 6 [(0, va_rf v0), (1, .int v1), (2, .int v2)]) : W p l e (RM 6 h0) s m args below meth c H locs cells slots (MQT below g (qI K) E args s h0) (F0 m 32 ls []) := by
  have hx := X.hx
  have hb := X.hb
  unfold w_X8_countsWays_J32 at hw
  refine lv_iconst (v := 0) hx hb dX8_countsWays_32 (by decide) ?_
  refine lv_istore_n (i := 3) (lv' := [(3, .int 0), (0, va_rf v0), (1, .int v1), (2, .int v2)]) hx hb dX8_countsWays_33 rfl hl (by decide) rfl (fun ls hl => ?_)
  obtain ⟨n, hw⟩ := hw
  exact t_X8_countsWays_L34 X  n hw hR (lv_sub hl [1, 2, 3, 0] rfl)
theorem t_X8_countsWays_J29 {p : Program} {l : Launch} {e : Env} {s : State} {m : MethodId} {args : Array Value} {below : List Frame} {meth : Method} {c : Code} {g : GT} {h0 : AH} {v0 : Option Nat} {v1 : Int32} {v2 : Int32} {K : Int32 → AH → Prop} {E : Nat → AH → Prop} {h : AH} {H : Heap} {locs : List Loc} {cells slots : Nat} {ls : Array Slot} (X : Cx g h0 p s m args meth c RX8 cX8_countsWays 6 (Option.some Jvm.ClassFile.FieldType.int))  (hw : w_X8_countsWays_J29 g v0 v1 v2 K E h) (hR : HS g s h H locs) (hl : lv_has ls 6 [(0, va_rf v0), (1, .int v1), (2, .int v2)]) : W p l e (RM 6 h0) s m args below meth c H locs cells slots (MQT below g (qI K) E args s h0) (F0 m 29 ls []) := by
  have hx := X.hx
  have hb := X.hb
  unfold w_X8_countsWays_J29 at hw
  refine r_iinc X (k := 2) (v := (v2 + 1)) (lv' := fun x19 => [(2, .int x19), (0, va_rf v0), (1, .int v1)]) dX8_countsWays_29 hl rfl rfl (by decide) hw (fun _ => rfl) (fun x19 hw ls hl => ?_)
  exact t_X8_countsWays_J32 X  hw hR (lv_sub hl [1, 2, 0] rfl)
theorem c_X8_countsWays (l : Launch) (g : GT) (v0 : Option Nat) (v1 : Int32) : CT qI l yX8_countsWays (ws_ yX8_countsWays cX8_countsWays 6 (Option.some Jvm.ClassFile.FieldType.int)) 6 g [va_rf v0, .int v1] (fun K E h => w_X8_countsWays g v0 v1 K E h) := by
  refine CT_of (lv := [(0, va_rf v0), (1, .int v1)]) (by decide +kernel) (by simp [lg_sl, cat_rf, cat_int, cat_long]) (by simp [lv_args, cat_rf, cat_int, cat_long]) (fun h0 K E p e s m args below meth c H locs cells slots ls X hxt hmn hw hR hl => ?_)
  have hx := X.hx
  have hb := X.hb
  unfold w_X8_countsWays at hw
  refine lv_iconst (v := 0) hx hb dX8_countsWays_0 (by decide) ?_
  refine lv_istore_n (i := 2) (lv' := [(2, .int 0), (0, va_rf v0), (1, .int v1)]) hx hb dX8_countsWays_1 rfl hl (by decide) rfl (fun ls hl => ?_)
  refine r_aload_n X dX8_countsWays_2 rfl (lv_at hl 1 rfl) ?_
  refine lv_iconst (v := (-1)) hx hb dX8_countsWays_3 (by decide) ?_
  refine r_put X hR fp_X8_387 (Or.inl fn_X8_387) (nf_int _) dX8_countsWays_4 hw (fun H locs h hR hw => ?_)
  refine r_aload_n X dX8_countsWays_7 rfl (lv_at hl 1 rfl) ?_
  refine lv_iconst (v := (-1)) hx hb dX8_countsWays_8 (by decide) ?_
  refine lv_iconst (v := 0) hx hb dX8_countsWays_9 (by decide) ?_
  refine lv_iconst (v := 0) hx hb dX8_countsWays_10 (by decide) ?_
  refine r_callI X hR (c_V (ci := 8) (q := (RX8, TX8, 32)) X hR hl.1 (c_X8_wrongClaim l g v0 (-1) 0 0) (lw_V q2051 q2053 qs91 q125 q2054) rfl rfl mh_X8_wrongClaim rfl (by decide) (by decide) rfl (cat4 (Nat.le_of_ble_eq_true rfl)) dX8_countsWays_11 hw) (fun x1 h H locs cells slots hR hw => ?_)
  refine lv_bipush (v := (-2)) hx hb dX8_countsWays_14 (by decide) ?_
  refine lv_icmp_ne (tgt := 32) hx hb dX8_countsWays_16 (by decide) (fun c2 => ?_) (fun c2 => ?_)
  · have hw := hw.1 c2
    exact t_X8_countsWays_J32 X  hw hR (lv_sub hl [1, 2, 0] rfl)
  · have hw := hw.2 c2
    refine lv_iload_n hx hb dX8_countsWays_19 rfl (lv_at hl 2 rfl) ?_
    refine lv_if_ne (tgt := 29) hx hb dX8_countsWays_20 (by decide) (fun c18 => ?_) (fun c18 => ?_)
    · have hw := hw.1 c18
      exact t_X8_countsWays_J29 X  hw hR (lv_sub hl [1, 2, 0] rfl)
    · have hw := hw.2 c18
      refine r_aload_n X dX8_countsWays_23 rfl (lv_at hl 1 rfl) ?_
      refine lv_bipush (v := (-2)) hx hb dX8_countsWays_24 (by decide) ?_
      refine r_put X hR fp_X8_387 (Or.inl fn_X8_387) (nf_int _) dX8_countsWays_26 hw (fun H locs h hR hw => ?_)
      exact t_X8_countsWays_J29 X  hw hR (lv_sub hl [1, 2, 0] rfl)
theorem c_X8_ways (l : Launch) (g : GT) (v0 : Option Nat) : CT qI l yX8_ways (ws_ yX8_ways cX8_ways 1 (Option.some Jvm.ClassFile.FieldType.int)) 7 g [va_rf v0] (fun K E h => w_X8_ways g v0 K E h) := by
  refine CT_of (lv := [(0, va_rf v0)]) (by decide +kernel) (by simp [lg_sl, cat_rf, cat_int, cat_long]) (by simp [lv_args, cat_rf, cat_int, cat_long]) (fun h0 K E p e s m args below meth c H locs cells slots ls X hxt hmn hw hR hl => ?_)
  have hx := X.hx
  have hb := X.hb
  unfold w_X8_ways at hw
  refine r_aload_n X dX8_ways_0 rfl (lv_at hl 0 rfl) ?_
  refine lv_iconst (v := 0) hx hb dX8_ways_1 (by decide) ?_
  refine r_put X hR fp_X8_45 (Or.inl fn_X8_45) (nf_int _) dX8_ways_2 hw (fun H locs h hR hw => ?_)
  refine r_aload_n X dX8_ways_5 rfl (lv_at hl 0 rfl) ?_
  refine r_gR X hR fk_X8_316 dX8_ways_6 hw (fun x1 hw => ?_)
  refine r_ifnonnull (tgt := 20) X dX8_ways_9 (by decide) (fun c2 => ?_) (fun c2 => ?_)
  · have hw := hw.1 c2
    refine r_aload_n X dX8_ways_20 rfl (lv_at hl 0 rfl) ?_
    refine r_aload_n X dX8_ways_21 rfl (lv_at hl 0 rfl) ?_
    refine lv_iconst (v := (-1)) hx hb dX8_ways_22 (by decide) ?_
    refine r_callI X hR (c_V (ci := 8) (q := (RX8, TX8, 32)) X hR hl.1 (c_X8_countsWays l g v0 (-1)) (lw_V q2059 q2061 qs92 q125 q2062) rfl rfl mh_X8_countsWays rfl (by decide) (by decide) rfl (cat4 (Nat.le_of_ble_eq_true rfl)) dX8_ways_23 hw) (fun x3 h H locs cells slots hR hw => ?_)
    refine r_callI X hR (c_V (ci := 8) (q := (RX8, TX8, 32)) X hR hl.1 (c_X8_good l g v0 x3) (lw_V q1929 q1931 qs78 q125 q1932) rfl rfl mh_X8_good rfl (by decide) (by decide) rfl (cat4 (Nat.le_of_ble_eq_true rfl)) dX8_ways_26 hw) (fun x4 h H locs cells slots hR hw => ?_)
    exact r_iret X hR dX8_ways_29 hw
  · have hw := hw.2 c2
    refine r_aload_n X dX8_ways_12 rfl (lv_at hl 0 rfl) ?_
    refine lv_iconst (v := 1) hx hb dX8_ways_13 (by decide) ?_
    refine r_callI X hR (c_V (ci := 8) (q := (RX8, TX8, 32)) X hR hl.1 (c_X8_refused l g v0 1) (lw_V q1657 q1659 qs50 q125 q1660) rfl rfl mh_X8_refused rfl (by decide) (by decide) rfl (cat4 (Nat.le_of_ble_eq_true rfl)) dX8_ways_14 hw) (fun x5 h H locs cells slots hR hw => ?_)
    refine lv_goto (tgt := 29) hx hb dX8_ways_17 (by decide) ?_
    exact r_iret X hR dX8_ways_29 hw
theorem t_X8_wayAt_J42 {p : Program} {l : Launch} {e : Env} {s : State} {m : MethodId} {args : Array Value} {below : List Frame} {meth : Method} {c : Code} {g : GT} {h0 : AH} {v0 : Option Nat} {K : Int32 → AH → Prop} {E : Nat → AH → Prop} {h : AH} {H : Heap} {locs : List Loc} {cells slots : Nat} {ls : Array Slot} (X : Cx g h0 p s m args meth c RX8 cX8_wayAt 2 (Option.some Jvm.ClassFile.FieldType.int))  (hw : w_X8_wayAt_J42 g v0 K E h) (hR : HS g s h H locs) (hl : lv_has ls 2 [(0, va_rf v0)]) : W p l e (RM 7 h0) s m args below meth c H locs cells slots (MQT below g (qI K) E args s h0) (F0 m 42 ls []) := by
  have hx := X.hx
  have hb := X.hb
  unfold w_X8_wayAt_J42 at hw
  refine r_aload_n X dX8_wayAt_42 rfl (lv_at hl 0 rfl) ?_
  refine lv_iconst (v := 1) hx hb dX8_wayAt_43 (by decide) ?_
  refine r_callI X hR (c_V (ci := 8) (q := (RX8, TX8, 32)) X hR hl.1 (c_X8_refused l g v0 1) (lw_V q1657 q1659 qs50 q125 q1660) rfl rfl mh_X8_refused rfl (by decide) (by decide) rfl (cat4 (Nat.le_of_ble_eq_true rfl)) dX8_wayAt_44 hw) (fun x4 h H locs cells slots hR hw => ?_)
  exact r_iret X hR dX8_wayAt_47 hw
theorem c_X8_wayAt (l : Launch) (g : GT) (v0 : Option Nat) (v1 : Int32) : CT qI l yX8_wayAt (ws_ yX8_wayAt cX8_wayAt 2 (Option.some Jvm.ClassFile.FieldType.int)) 7 g [va_rf v0, .int v1] (fun K E h => w_X8_wayAt g v0 v1 K E h) := by
  refine CT_of (lv := [(0, va_rf v0), (1, .int v1)]) (by decide +kernel) (by simp [lg_sl, cat_rf, cat_int, cat_long]) (by simp [lv_args, cat_rf, cat_int, cat_long]) (fun h0 K E p e s m args below meth c H locs cells slots ls X hxt hmn hw hR hl => ?_)
  have hx := X.hx
  have hb := X.hb
  unfold w_X8_wayAt at hw
  refine r_aload_n X dX8_wayAt_0 rfl (lv_at hl 0 rfl) ?_
  refine lv_iconst (v := 0) hx hb dX8_wayAt_1 (by decide) ?_
  refine r_put X hR fp_X8_45 (Or.inl fn_X8_45) (nf_int _) dX8_wayAt_2 hw (fun H locs h hR hw => ?_)
  refine r_aload_n X dX8_wayAt_5 rfl (lv_at hl 0 rfl) ?_
  refine r_gR X hR fk_X8_316 dX8_wayAt_6 hw (fun x1 hw => ?_)
  refine r_ifnonnull (tgt := 18) X dX8_wayAt_9 (by decide) (fun c2 => ?_) (fun c2 => ?_)
  · have hw := hw.1 c2
    refine lv_iload_n hx hb dX8_wayAt_18 rfl (lv_at hl 1 rfl) ?_
    refine lv_if_lt (tgt := 42) hx hb dX8_wayAt_19 (by decide) (fun c3 => ?_) (fun c3 => ?_)
    · have hw := hw.1 c3
      exact t_X8_wayAt_J42 X  hw hR (lv_sub hl [0] rfl)
    · have hw := hw.2 c3
      refine lv_iload_n hx hb dX8_wayAt_22 rfl (lv_at hl 1 rfl) ?_
      refine r_aload_n X dX8_wayAt_23 rfl (lv_at hl 0 rfl) ?_
      refine lv_iload_n hx hb dX8_wayAt_24 rfl (lv_at hl 1 rfl) ?_
      refine r_callI X hR (c_V (ci := 8) (q := (RX8, TX8, 32)) X hR hl.1 (c_X8_countsWays l g v0 v1) (lw_V q2059 q2061 qs92 q125 q2062) rfl rfl mh_X8_countsWays rfl (by decide) (by decide) rfl (cat4 (Nat.le_of_ble_eq_true rfl)) dX8_wayAt_25 hw) (fun x5 h H locs cells slots hR hw => ?_)
      refine lv_icmp_ge (tgt := 42) hx hb dX8_wayAt_28 (by decide) (fun c6 => ?_) (fun c6 => ?_)
      · have hw := hw.1 c6
        exact t_X8_wayAt_J42 X  hw hR (lv_sub hl [0] rfl)
      · have hw := hw.2 c6
        refine r_aload_n X dX8_wayAt_31 rfl (lv_at hl 0 rfl) ?_
        refine r_aload_n X dX8_wayAt_32 rfl (lv_at hl 0 rfl) ?_
        refine r_gI X hR fk_X8_387 dX8_wayAt_33 hw (fun x7 hw => ?_)
        refine r_callI X hR (c_V (ci := 8) (q := (RX8, TX8, 32)) X hR hl.1 (c_X8_good l g v0 x7) (lw_V q1929 q1931 qs78 q125 q1932) rfl rfl mh_X8_good rfl (by decide) (by decide) rfl (cat4 (Nat.le_of_ble_eq_true rfl)) dX8_wayAt_36 hw) (fun x8 h H locs cells slots hR hw => ?_)
        refine lv_goto (tgt := 47) hx hb dX8_wayAt_39 (by decide) ?_
        exact r_iret X hR dX8_wayAt_47 hw
  · have hw := hw.2 c2
    refine r_aload_n X dX8_wayAt_12 rfl (lv_at hl 0 rfl) ?_
    refine lv_iconst (v := 1) hx hb dX8_wayAt_13 (by decide) ?_
    refine r_callI X hR (c_V (ci := 8) (q := (RX8, TX8, 32)) X hR hl.1 (c_X8_refused l g v0 1) (lw_V q1657 q1659 qs50 q125 q1660) rfl rfl mh_X8_refused rfl (by decide) (by decide) rfl (cat4 (Nat.le_of_ble_eq_true rfl)) dX8_wayAt_14 hw) (fun x9 h H locs cells slots hR hw => ?_)
    exact r_iret X hR dX8_wayAt_17 hw
theorem t_X8_owing_J26 {p : Program} {l : Launch} {e : Env} {s : State} {m : MethodId} {args : Array Value} {below : List Frame} {meth : Method} {c : Code} {g : GT} {h0 : AH} {v0 : Option Nat} {K : Int32 → AH → Prop} {E : Nat → AH → Prop} {h : AH} {H : Heap} {locs : List Loc} {cells slots : Nat} {ls : Array Slot} (X : Cx g h0 p s m args meth c RX8 cX8_owing 5 (Option.some Jvm.ClassFile.FieldType.int))  (hw : w_X8_owing_J26 g v0 K E h) (hR : HS g s h H locs) (hl : lv_has ls 5 [(0, va_rf v0)]) : W p l e (RM 2 h0) s m args below meth c H locs cells slots (MQT below g (qI K) E args s h0) (F0 m 26 ls []) := by
  have hx := X.hx
  have hb := X.hb
  unfold w_X8_owing_J26 at hw
  refine r_aload_n X dX8_owing_26 rfl (lv_at hl 0 rfl) ?_
  refine lv_iconst (v := 1) hx hb dX8_owing_27 (by decide) ?_
  refine r_callI X hR (c_V (ci := 8) (q := (RX8, TX8, 32)) X hR hl.1 (c_X8_refused l g v0 1) (lw_V q1657 q1659 qs50 q125 q1660) rfl rfl mh_X8_refused rfl (by decide) (by decide) rfl (cat4 (Nat.le_of_ble_eq_true rfl)) dX8_owing_28 hw) (fun x3 h H locs cells slots hR hw => ?_)
  exact r_iret X hR dX8_owing_31 hw
theorem t_X8_owing_J84 {p : Program} {l : Launch} {e : Env} {s : State} {m : MethodId} {args : Array Value} {below : List Frame} {meth : Method} {c : Code} {g : GT} {h0 : AH} {v0 : Option Nat} {v1 : Int32} {v2 : Int32} {v4 : Int32} {s0 : Int32} {s1 : Int32} {K : Int32 → AH → Prop} {E : Nat → AH → Prop} {L37 : Int32 → Int32 → AH → Prop} {h : AH} {H : Heap} {locs : List Loc} {cells slots : Nat} {ls : Array Slot} (X : Cx g h0 p s m args meth c RX8 cX8_owing 5 (Option.some Jvm.ClassFile.FieldType.int)) (k37 : ∀ {v3' : Int32} {v4' : Int32} {h : AH} {H : Heap} {locs : List Loc} {cells slots : Nat} {ls : Array Slot}, L37 v3' v4' h → HS g s h H locs → lv_has ls 5 [(0, va_rf v0), (1, .int v1), (2, .int v2), (3, .int (v3')), (4, .int (v4'))] → W p l e (RM 2 h0) s m args below meth c H locs cells slots (MQT below g (qI K) E args s h0) (F0 m 37 ls [])) (hw : w_X8_owing_J84 g v0 v1 v2 v4 s0 s1 K E L37 h) (hR : HS g s h H locs) (hl : lv_has ls 5 [(0, va_rf v0), (1, .int v1), (2, .int v2), (4, .int v4)]) : W p l e (RM 2 h0) s m args below meth c H locs cells slots (MQT below g (qI K) E args s h0) (F0 m 84 ls [.int s0, .int s1]) := by
  have hx := X.hx
  have hb := X.hb
  unfold w_X8_owing_J84 at hw
  refine lv_ior hx hb dX8_owing_84 ?_
  refine r_nmI hw (fun x14 hw => ?_)
  refine lv_istore_n (i := 3) (lv' := [(3, .int x14), (0, va_rf v0), (1, .int v1), (2, .int v2), (4, .int v4)]) hx hb dX8_owing_85 rfl hl (by decide) rfl (fun ls hl => ?_)
  refine r_iinc X (k := 4) (v := (v4 + 1)) (lv' := fun x15 => [(4, .int x15), (3, .int x14), (0, va_rf v0), (1, .int v1), (2, .int v2)]) dX8_owing_86 hl rfl rfl (by decide) hw (fun _ => rfl) (fun x15 hw ls hl => ?_)
  refine lv_goto (tgt := 37) hx hb dX8_owing_89 (by decide) ?_
  exact k37 hw hR (lv_sub hl [2, 3, 4, 1, 0] rfl)
theorem t_X8_owing_J83 {p : Program} {l : Launch} {e : Env} {s : State} {m : MethodId} {args : Array Value} {below : List Frame} {meth : Method} {c : Code} {g : GT} {h0 : AH} {v0 : Option Nat} {v1 : Int32} {v2 : Int32} {v4 : Int32} {s0 : Int32} {K : Int32 → AH → Prop} {E : Nat → AH → Prop} {L37 : Int32 → Int32 → AH → Prop} {h : AH} {H : Heap} {locs : List Loc} {cells slots : Nat} {ls : Array Slot} (X : Cx g h0 p s m args meth c RX8 cX8_owing 5 (Option.some Jvm.ClassFile.FieldType.int)) (k37 : ∀ {v3' : Int32} {v4' : Int32} {h : AH} {H : Heap} {locs : List Loc} {cells slots : Nat} {ls : Array Slot}, L37 v3' v4' h → HS g s h H locs → lv_has ls 5 [(0, va_rf v0), (1, .int v1), (2, .int v2), (3, .int (v3')), (4, .int (v4'))] → W p l e (RM 2 h0) s m args below meth c H locs cells slots (MQT below g (qI K) E args s h0) (F0 m 37 ls [])) (hw : w_X8_owing_J83 g v0 v1 v2 v4 s0 K E L37 h) (hR : HS g s h H locs) (hl : lv_has ls 5 [(0, va_rf v0), (1, .int v1), (2, .int v2), (4, .int v4)]) : W p l e (RM 2 h0) s m args below meth c H locs cells slots (MQT below g (qI K) E args s h0) (F0 m 83 ls [.int s0]) := by
  have hx := X.hx
  have hb := X.hb
  unfold w_X8_owing_J83 at hw
  refine lv_iconst (v := 0) hx hb dX8_owing_83 (by decide) ?_
  exact t_X8_owing_J84 X k37 hw hR (lv_sub hl [0, 1, 2, 3] rfl)
theorem t_X8_owing_L37 {p : Program} {l : Launch} {e : Env} {s : State} {m : MethodId} {args : Array Value} {below : List Frame} {meth : Method} {c : Code} {g : GT} {h0 : AH} {v0 : Option Nat} {v1 : Int32} {v2 : Int32} {K : Int32 → AH → Prop} {E : Nat → AH → Prop} (X : Cx g h0 p s m args meth c RX8 cX8_owing 5 (Option.some Jvm.ClassFile.FieldType.int))  : ∀ (n : Nat) {v3 : Int32} {v4 : Int32} {h : AH} {H : Heap} {locs : List Loc} {cells slots : Nat} {ls : Array Slot}, LpN2 (w_X8_owing_L37 g v0 v1 v2 K E) n v3 v4 h → HS g s h H locs → lv_has ls 5 [(0, va_rf v0), (1, .int v1), (2, .int v2), (3, .int v3), (4, .int v4)] → W p l e (RM 2 h0) s m args below meth c H locs cells slots (MQT below g (qI K) E args s h0) (F0 m 37 ls []) := by
  have hx := X.hx
  have hb := X.hb
  intro n
  induction n with
  | zero =>
    intro v3 v4 h H locs cells slots ls hw
    exact hw.elim
  | succ n k37 =>
    intro v3 v4 h H locs cells slots ls hw hR hl
    have hw : w_X8_owing_L37 g v0 v1 v2 K E (LpN2 (w_X8_owing_L37 g v0 v1 v2 K E) n) v3 v4 h := hw
    unfold w_X8_owing_L37 at hw
    refine lv_iload hx hb dX8_owing_37 (lv_at hl 4 rfl) ?_
    refine r_aload_n X dX8_owing_39 rfl (lv_at hl 0 rfl) ?_
    refine r_gR X hR fk_X8_316 dX8_owing_40 hw (fun x7 hw => ?_)
    refine r_gI X hR fk_X8_194 dX8_owing_43 hw (fun x8 hw => ?_)
    refine lv_icmp_ge (tgt := 92) hx hb dX8_owing_46 (by decide) (fun c9 => ?_) (fun c9 => ?_)
    · have hw := hw.1 c9
      refine r_aload_n X dX8_owing_92 rfl (lv_at hl 0 rfl) ?_
      refine lv_iload_n hx hb dX8_owing_93 rfl (lv_at hl 3 rfl) ?_
      refine r_callI X hR (c_V (ci := 8) (q := (RX8, TX8, 32)) X hR hl.1 (c_X8_good l g v0 v3) (lw_V q1929 q1931 qs78 q125 q1932) rfl rfl mh_X8_good rfl (by decide) (by decide) rfl (cat4 (Nat.le_of_ble_eq_true rfl)) dX8_owing_94 hw) (fun x10 h H locs cells slots hR hw => ?_)
      exact r_iret X hR dX8_owing_97 hw
    · have hw := hw.2 c9
      refine lv_iload_n hx hb dX8_owing_49 rfl (lv_at hl 3 rfl) ?_
      refine r_aload_n X dX8_owing_50 rfl (lv_at hl 0 rfl) ?_
      refine r_gR X hR fk_X8_17 dX8_owing_51 hw (fun x11 hw => ?_)
      refine lv_iconst (v := 5) hx hb dX8_owing_54 (by decide) ?_
      refine lv_iload hx hb dX8_owing_55 (lv_at hl 4 rfl) ?_
      refine lv_iadd hx hb dX8_owing_57 ?_
      refine r_iald X hR dX8_owing_58 hw (fun x12 hw => ?_)
      refine lv_iload_n hx hb dX8_owing_59 rfl (lv_at hl 1 rfl) ?_
      refine lv_icmp_ne (tgt := 83) hx hb dX8_owing_60 (by decide) (fun c13 => ?_) (fun c13 => ?_)
      · have hw := hw.1 c13
        exact t_X8_owing_J83 X k37 hw hR (lv_sub hl [0, 1, 2, 4] rfl)
      · have hw := hw.2 c13
        refine r_aload_n X dX8_owing_63 rfl (lv_at hl 0 rfl) ?_
        refine r_gR X hR fk_X8_17 dX8_owing_64 hw (fun x16 hw => ?_)
        refine lv_iconst (v := 0) hx hb dX8_owing_67 (by decide) ?_
        refine lv_iload hx hb dX8_owing_68 (lv_at hl 4 rfl) ?_
        refine lv_iadd hx hb dX8_owing_70 ?_
        refine r_iald X hR dX8_owing_71 hw (fun x17 hw => ?_)
        refine lv_iload_n hx hb dX8_owing_72 rfl (lv_at hl 2 rfl) ?_
        refine lv_icmp_ne (tgt := 83) hx hb dX8_owing_73 (by decide) (fun c18 => ?_) (fun c18 => ?_)
        · have hw := hw.1 c18
          exact t_X8_owing_J83 X k37 hw hR (lv_sub hl [0, 1, 2, 4] rfl)
        · have hw := hw.2 c18
          refine lv_iconst (v := 1) hx hb dX8_owing_76 (by decide) ?_
          refine lv_iload hx hb dX8_owing_77 (lv_at hl 4 rfl) ?_
          refine lv_ishl hx hb dX8_owing_79 ?_
          refine lv_goto (tgt := 84) hx hb dX8_owing_80 (by decide) ?_
          exact t_X8_owing_J84 X k37 hw hR (lv_sub hl [0, 1, 2, 4] rfl)
theorem c_X8_owing (l : Launch) (g : GT) (v0 : Option Nat) (v1 : Int32) (v2 : Int32) : CT qI l yX8_owing (ws_ yX8_owing cX8_owing 5 (Option.some Jvm.ClassFile.FieldType.int)) 2 g [va_rf v0, .int v1, .int v2] (fun K E h => w_X8_owing g v0 v1 v2 K E h) := by
  refine CT_of (lv := [(0, va_rf v0), (1, .int v1), (2, .int v2)]) (by decide +kernel) (by simp [lg_sl, cat_rf, cat_int, cat_long]) (by simp [lv_args, cat_rf, cat_int, cat_long]) (fun h0 K E p e s m args below meth c H locs cells slots ls X hxt hmn hw hR hl => ?_)
  have hx := X.hx
  have hb := X.hb
  unfold w_X8_owing at hw
  refine r_aload_n X dX8_owing_0 rfl (lv_at hl 0 rfl) ?_
  refine lv_iconst (v := 0) hx hb dX8_owing_1 (by decide) ?_
  refine r_put X hR fp_X8_45 (Or.inl fn_X8_45) (nf_int _) dX8_owing_2 hw (fun H locs h hR hw => ?_)
  refine r_aload_n X dX8_owing_5 rfl (lv_at hl 0 rfl) ?_
  refine lv_iload_n hx hb dX8_owing_6 rfl (lv_at hl 1 rfl) ?_
  refine r_callI X hR (c_V (ci := 8) (q := (RX8, TX8, 32)) X hR hl.1 (c_X8_isPerson l g v0 v1) (lw_V q1953 q1955 qs80 q125 q1956) rfl rfl mh_X8_isPerson rfl (by decide) (by decide) rfl (cat4 (Nat.le_of_ble_eq_true rfl)) dX8_owing_7 hw) (fun x1 h H locs cells slots hR hw => ?_)
  refine lv_if_eq (tgt := 26) hx hb dX8_owing_10 (by decide) (fun c2 => ?_) (fun c2 => ?_)
  · have hw := hw.1 c2
    exact t_X8_owing_J26 X  hw hR (lv_sub hl [0] rfl)
  · have hw := hw.2 c2
    refine r_aload_n X dX8_owing_13 rfl (lv_at hl 0 rfl) ?_
    refine lv_iload_n hx hb dX8_owing_14 rfl (lv_at hl 2 rfl) ?_
    refine r_callI X hR (c_V (ci := 8) (q := (RX8, TX8, 32)) X hR hl.1 (c_X8_isPerson l g v0 v2) (lw_V q1953 q1955 qs80 q125 q1956) rfl rfl mh_X8_isPerson rfl (by decide) (by decide) rfl (cat4 (Nat.le_of_ble_eq_true rfl)) dX8_owing_15 hw) (fun x4 h H locs cells slots hR hw => ?_)
    refine lv_if_eq (tgt := 26) hx hb dX8_owing_18 (by decide) (fun c5 => ?_) (fun c5 => ?_)
    · have hw := hw.1 c5
      exact t_X8_owing_J26 X  hw hR (lv_sub hl [0] rfl)
    · have hw := hw.2 c5
      refine lv_iload_n hx hb dX8_owing_21 rfl (lv_at hl 1 rfl) ?_
      refine lv_iload_n hx hb dX8_owing_22 rfl (lv_at hl 2 rfl) ?_
      refine lv_icmp_ne (tgt := 32) hx hb dX8_owing_23 (by decide) (fun c6 => ?_) (fun c6 => ?_)
      · have hw := hw.1 c6
        refine lv_iconst (v := 0) hx hb dX8_owing_32 (by decide) ?_
        refine lv_istore_n (i := 3) (lv' := [(3, .int 0), (0, va_rf v0), (1, .int v1), (2, .int v2)]) hx hb dX8_owing_33 rfl hl (by decide) rfl (fun ls hl => ?_)
        refine lv_iconst (v := 0) hx hb dX8_owing_34 (by decide) ?_
        refine lv_istore (i := 4) (lv' := [(4, .int 0), (3, .int 0), (0, va_rf v0), (1, .int v1), (2, .int v2)]) hx hb dX8_owing_35 hl (by decide) rfl (fun ls hl => ?_)
        obtain ⟨n, hw⟩ := hw
        exact t_X8_owing_L37 X  n hw hR (lv_sub hl [2, 3, 4, 1, 0] rfl)
      · have hw := hw.2 c6
        exact t_X8_owing_J26 X  hw hR (lv_sub hl [0] rfl)
theorem t_X8_tries_L2 {p : Program} {l : Launch} {e : Env} {s : State} {m : MethodId} {args : Array Value} {below : List Frame} {meth : Method} {c : Code} {g : GT} {h0 : AH} {v0 : Option Nat} {K : Unit → AH → Prop} {E : Nat → AH → Prop} (X : Cx g h0 p s m args meth c RX8 cX8_tries 2 none)  : ∀ (n : Nat) {v1 : Int32} {h : AH} {H : Heap} {locs : List Loc} {cells slots : Nat} {ls : Array Slot}, LpN1 (w_X8_tries_L2 g v0 K E) n v1 h → HS g s h H locs → lv_has ls 2 [(0, va_rf v0), (1, .int v1)] → W p l e (RM 1 h0) s m args below meth c H locs cells slots (MQT below g (qV K) E args s h0) (F0 m 2 ls []) := by
  have hx := X.hx
  have hb := X.hb
  intro n
  induction n with
  | zero =>
    intro v1 h H locs cells slots ls hw
    exact hw.elim
  | succ n k2 =>
    intro v1 h H locs cells slots ls hw hR hl
    have hw : w_X8_tries_L2 g v0 K E (LpN1 (w_X8_tries_L2 g v0 K E) n) v1 h := hw
    unfold w_X8_tries_L2 at hw
    refine lv_iload_n hx hb dX8_tries_2 rfl (lv_at hl 1 rfl) ?_
    refine lv_bipush (v := 11) hx hb dX8_tries_3 (by decide) ?_
    refine lv_icmp_ge (tgt := 26) hx hb dX8_tries_5 (by decide) (fun c1 => ?_) (fun c1 => ?_)
    · have hw := hw.1 c1
      exact r_vret X hR rfl dX8_tries_26 hw
    · have hw := hw.2 c1
      refine r_aload_n X dX8_tries_8 rfl (lv_at hl 0 rfl) ?_
      refine r_gR X hR fk_X8_21 dX8_tries_9 hw (fun x2 hw => ?_)
      refine lv_iload_n hx hb dX8_tries_12 rfl (lv_at hl 1 rfl) ?_
      refine r_aload_n X dX8_tries_13 rfl (lv_at hl 0 rfl) ?_
      refine r_gR X hR fk_X8_17 dX8_tries_14 hw (fun x3 hw => ?_)
      refine lv_iload_n hx hb dX8_tries_17 rfl (lv_at hl 1 rfl) ?_
      refine r_iald X hR dX8_tries_18 hw (fun x4 hw => ?_)
      refine r_iast X hR dX8_tries_19 hw (fun H locs h hR hw => ?_)
      refine r_iinc X (k := 1) (v := (v1 + 1)) (lv' := fun x5 => [(1, .int x5), (0, va_rf v0)]) dX8_tries_20 hl rfl rfl (by decide) hw (fun _ => by simp [cat_rf, cat_int, cat_long]) (fun x5 hw ls hl => ?_)
      refine lv_goto (tgt := 2) hx hb dX8_tries_23 (by decide) ?_
      exact k2 hw hR (lv_sub hl [1, 0] rfl)
theorem c_X8_tries (l : Launch) (g : GT) (v0 : Option Nat) : CT qV l yX8_tries (ws_ yX8_tries cX8_tries 2 none) 1 g [va_rf v0] (fun K E h => w_X8_tries g v0 K E h) := by
  refine CT_of (lv := [(0, va_rf v0)]) (by decide +kernel) (by simp [lg_sl, cat_rf, cat_int, cat_long]) (by simp [lv_args, cat_rf, cat_int, cat_long]) (fun h0 K E p e s m args below meth c H locs cells slots ls X hxt hmn hw hR hl => ?_)
  have hx := X.hx
  have hb := X.hb
  unfold w_X8_tries at hw
  refine lv_iconst (v := 0) hx hb dX8_tries_0 (by decide) ?_
  refine lv_istore_n (i := 1) (lv' := [(1, .int 0), (0, va_rf v0)]) hx hb dX8_tries_1 rfl hl (by decide) (by simp [cat_rf, cat_int, cat_long]) (fun ls hl => ?_)
  obtain ⟨n, hw⟩ := hw
  exact t_X8_tries_L2 X  n hw hR (lv_sub hl [1, 0] rfl)
theorem c_X8_change (l : Launch) (g : GT) (v0 : Option Nat) (v1 : Int32) (v2 : Int32) : CT qI l yX8_change (ws_ yX8_change cX8_change 3 (Option.some Jvm.ClassFile.FieldType.int)) 4 g [va_rf v0, .int v1, .int v2] (fun K E h => w_X8_change g v0 v1 v2 K E h) := by
  refine CT_of (lv := [(0, va_rf v0), (1, .int v1), (2, .int v2)]) (by decide +kernel) (by simp [lg_sl, cat_rf, cat_int, cat_long]) (by simp [lv_args, cat_rf, cat_int, cat_long]) (fun h0 K E p e s m args below meth c H locs cells slots ls X hxt hmn hw hR hl => ?_)
  have hx := X.hx
  have hb := X.hb
  unfold w_X8_change at hw
  refine r_aload_n X dX8_change_0 rfl (lv_at hl 0 rfl) ?_
  refine lv_iconst (v := 0) hx hb dX8_change_1 (by decide) ?_
  refine r_put X hR fp_X8_45 (Or.inl fn_X8_45) (nf_int _) dX8_change_2 hw (fun H locs h hR hw => ?_)
  refine r_aload_n X dX8_change_5 rfl (lv_at hl 0 rfl) ?_
  refine lv_iload_n hx hb dX8_change_6 rfl (lv_at hl 1 rfl) ?_
  refine r_callI X hR (c_V (ci := 8) (q := (RX8, TX8, 32)) X hR hl.1 (c_X8_isPerson l g v0 v1) (lw_V q1953 q1955 qs80 q125 q1956) rfl rfl mh_X8_isPerson rfl (by decide) (by decide) rfl (cat4 (Nat.le_of_ble_eq_true rfl)) dX8_change_7 hw) (fun x1 h H locs cells slots hR hw => ?_)
  refine lv_if_ne (tgt := 23) hx hb dX8_change_10 (by decide) (fun c2 => ?_) (fun c2 => ?_)
  · have hw := hw.1 c2
    refine r_aload_n X dX8_change_23 rfl (lv_at hl 0 rfl) ?_
    refine r_callV X hR (c_V (ci := 8) (q := (RX8, TX8, 32)) X hR hl.1 (c_X8_tries l g v0) (lw_V q2075 q2077 qs93 q125 q2078) rfl rfl mh_X8_tries rfl (by decide) (by decide) rfl (cat4 (Nat.le_of_ble_eq_true rfl)) dX8_change_24 hw) (fun _ h H locs cells slots hR hw => ?_)
    refine r_aload_n X dX8_change_27 rfl (lv_at hl 0 rfl) ?_
    refine r_aload_n X dX8_change_28 rfl (lv_at hl 0 rfl) ?_
    refine r_gR X hR fk_X8_21 dX8_change_29 hw (fun x3 hw => ?_)
    refine lv_iload_n hx hb dX8_change_32 rfl (lv_at hl 2 rfl) ?_
    refine r_callV X hR (c_V (ci := 8) (q := (RX8, TX8, 32)) X hR hl.1 (c_X8_ends l g v0 x3 v2) (lw_V q2008 q2010 qs88 q125 q2011) rfl rfl mh_X8_ends rfl (by decide) (by decide) rfl (cat4 (Nat.le_of_ble_eq_true rfl)) dX8_change_33 hw) (fun _ h H locs cells slots hR hw => ?_)
    refine r_aload_n X dX8_change_36 rfl (lv_at hl 0 rfl) ?_
    refine r_aload_n X dX8_change_37 rfl (lv_at hl 0 rfl) ?_
    refine r_aload_n X dX8_change_38 rfl (lv_at hl 0 rfl) ?_
    refine r_gR X hR fk_X8_21 dX8_change_39 hw (fun x4 hw => ?_)
    refine lv_iload_n hx hb dX8_change_42 rfl (lv_at hl 1 rfl) ?_
    refine r_callI X hR (c_V (ci := 8) (q := (RX8, TX8, 32)) X hR hl.1 (c_X8_landsIn l g v0 x4 v1) (lw_V q1961 q1963 qs82 q125 q1964) rfl rfl mh_X8_landsIn rfl (by decide) (by decide) rfl (cat4 (Nat.le_of_ble_eq_true rfl)) dX8_change_43 hw) (fun x5 h H locs cells slots hR hw => ?_)
    refine r_aload_n X dX8_change_46 rfl (lv_at hl 0 rfl) ?_
    refine r_aload_n X dX8_change_47 rfl (lv_at hl 0 rfl) ?_
    refine r_gR X hR fk_X8_17 dX8_change_48 hw (fun x6 hw => ?_)
    refine lv_iload_n hx hb dX8_change_51 rfl (lv_at hl 1 rfl) ?_
    refine r_callI X hR (c_V (ci := 8) (q := (RX8, TX8, 32)) X hR hl.1 (c_X8_landsIn l g v0 x6 v1) (lw_V q1961 q1963 qs82 q125 q1964) rfl rfl mh_X8_landsIn rfl (by decide) (by decide) rfl (cat4 (Nat.le_of_ble_eq_true rfl)) dX8_change_52 hw) (fun x7 h H locs cells slots hR hw => ?_)
    refine lv_isub hx hb dX8_change_55 ?_
    refine r_callI X hR (c_V (ci := 8) (q := (RX8, TX8, 32)) X hR hl.1 (c_X8_good l g v0 (x5 - x7)) (lw_V q1929 q1931 qs78 q125 q1932) rfl rfl mh_X8_good rfl (by decide) (by decide) rfl (cat4 (Nat.le_of_ble_eq_true rfl)) dX8_change_56 hw) (fun x8 h H locs cells slots hR hw => ?_)
    exact r_iret X hR dX8_change_59 hw
  · have hw := hw.2 c2
    refine r_aload_n X dX8_change_13 rfl (lv_at hl 0 rfl) ?_
    refine lv_iconst (v := 1) hx hb dX8_change_14 (by decide) ?_
    refine r_callI X hR (c_V (ci := 8) (q := (RX8, TX8, 32)) X hR hl.1 (c_X8_refused l g v0 1) (lw_V q1657 q1659 qs50 q125 q1660) rfl rfl mh_X8_refused rfl (by decide) (by decide) rfl (cat4 (Nat.le_of_ble_eq_true rfl)) dX8_change_15 hw) (fun x9 h H locs cells slots hR hw => ?_)
    refine lv_pop hx hb dX8_change_18 rfl ?_
    refine lv_sipush (v := (-1000)) hx hb dX8_change_19 (by decide) ?_
    exact r_iret X hR dX8_change_22 hw
theorem t_X8_lapsesIn_L25 {p : Program} {l : Launch} {e : Env} {s : State} {m : MethodId} {args : Array Value} {below : List Frame} {meth : Method} {c : Code} {g : GT} {h0 : AH} {v0 : Option Nat} {v1 : Int32} {K : Int32 → AH → Prop} {E : Nat → AH → Prop} (X : Cx g h0 p s m args meth c RX8 cX8_lapsesIn 3 (Option.some Jvm.ClassFile.FieldType.int))  : ∀ (n : Nat) {v2 : Int32} {h : AH} {H : Heap} {locs : List Loc} {cells slots : Nat} {ls : Array Slot}, LpN1 (w_X8_lapsesIn_L25 g v0 v1 K E) n v2 h → HS g s h H locs → lv_has ls 3 [(0, va_rf v0), (1, .int v1), (2, .int v2)] → W p l e (RM 4 h0) s m args below meth c H locs cells slots (MQT below g (qI K) E args s h0) (F0 m 25 ls []) := by
  have hx := X.hx
  have hb := X.hb
  intro n
  induction n with
  | zero =>
    intro v2 h H locs cells slots ls hw
    exact hw.elim
  | succ n k25 =>
    intro v2 h H locs cells slots ls hw hR hl
    have hw : w_X8_lapsesIn_L25 g v0 v1 K E (LpN1 (w_X8_lapsesIn_L25 g v0 v1 K E) n) v2 h := hw
    unfold w_X8_lapsesIn_L25 at hw
    refine lv_iload_n hx hb dX8_lapsesIn_25 rfl (lv_at hl 2 rfl) ?_
    refine lv_bipush (v := 30) hx hb dX8_lapsesIn_26 (by decide) ?_
    refine lv_icmp_gt (tgt := 65) hx hb dX8_lapsesIn_28 (by decide) (fun c3 => ?_) (fun c3 => ?_)
    · have hw := hw.1 c3
      refine r_aload_n X dX8_lapsesIn_65 rfl (lv_at hl 0 rfl) ?_
      refine lv_bipush (v := (-2)) hx hb dX8_lapsesIn_66 (by decide) ?_
      refine r_callI X hR (c_V (ci := 8) (q := (RX8, TX8, 32)) X hR hl.1 (c_X8_good l g v0 (-2)) (lw_V q1929 q1931 qs78 q125 q1932) rfl rfl mh_X8_good rfl (by decide) (by decide) rfl (cat4 (Nat.le_of_ble_eq_true rfl)) dX8_lapsesIn_68 hw) (fun x4 h H locs cells slots hR hw => ?_)
      exact r_iret X hR dX8_lapsesIn_71 hw
    · have hw := hw.2 c3
      refine r_aload_n X dX8_lapsesIn_31 rfl (lv_at hl 0 rfl) ?_
      refine r_gR X hR fk_X8_21 dX8_lapsesIn_32 hw (fun x5 hw => ?_)
      refine lv_iconst (v := 5) hx hb dX8_lapsesIn_35 (by decide) ?_
      refine lv_iload_n hx hb dX8_lapsesIn_36 rfl (lv_at hl 1 rfl) ?_
      refine lv_iadd hx hb dX8_lapsesIn_37 ?_
      refine r_iald X hR dX8_lapsesIn_38 hw (fun x6 hw => ?_)
      refine lv_bipush (v := (-2)) hx hb dX8_lapsesIn_39 (by decide) ?_
      refine lv_icmp_ne (tgt := 50) hx hb dX8_lapsesIn_41 (by decide) (fun c7 => ?_) (fun c7 => ?_)
      · have hw := hw.1 c7
        refine r_aload_n X dX8_lapsesIn_50 rfl (lv_at hl 0 rfl) ?_
        refine r_aload_n X dX8_lapsesIn_51 rfl (lv_at hl 0 rfl) ?_
        refine r_gR X hR fk_X8_21 dX8_lapsesIn_52 hw (fun x8 hw => ?_)
        refine lv_iconst (v := 0) hx hb dX8_lapsesIn_55 (by decide) ?_
        refine r_callV X hR (c_V (ci := 8) (q := (RX8, TX8, 32)) X hR hl.1 (c_X8_ends l g v0 x8 0) (lw_V q2008 q2010 qs88 q125 q2011) rfl rfl mh_X8_ends rfl (by decide) (by decide) rfl (cat4 (Nat.le_of_ble_eq_true rfl)) dX8_lapsesIn_56 hw) (fun _ h H locs cells slots hR hw => ?_)
        refine r_iinc X (k := 2) (v := (v2 + 1)) (lv' := fun x9 => [(2, .int x9), (0, va_rf v0), (1, .int v1)]) dX8_lapsesIn_59 hl rfl rfl (by decide) hw (fun _ => rfl) (fun x9 hw ls hl => ?_)
        refine lv_goto (tgt := 25) hx hb dX8_lapsesIn_62 (by decide) ?_
        exact k25 hw hR (lv_sub hl [1, 2, 0] rfl)
      · have hw := hw.2 c7
        refine r_aload_n X dX8_lapsesIn_44 rfl (lv_at hl 0 rfl) ?_
        refine lv_iload_n hx hb dX8_lapsesIn_45 rfl (lv_at hl 2 rfl) ?_
        refine r_callI X hR (c_V (ci := 8) (q := (RX8, TX8, 32)) X hR hl.1 (c_X8_good l g v0 v2) (lw_V q1929 q1931 qs78 q125 q1932) rfl rfl mh_X8_good rfl (by decide) (by decide) rfl (cat4 (Nat.le_of_ble_eq_true rfl)) dX8_lapsesIn_46 hw) (fun x10 h H locs cells slots hR hw => ?_)
        exact r_iret X hR dX8_lapsesIn_49 hw
theorem c_X8_lapsesIn (l : Launch) (g : GT) (v0 : Option Nat) (v1 : Int32) : CT qI l yX8_lapsesIn (ws_ yX8_lapsesIn cX8_lapsesIn 3 (Option.some Jvm.ClassFile.FieldType.int)) 4 g [va_rf v0, .int v1] (fun K E h => w_X8_lapsesIn g v0 v1 K E h) := by
  refine CT_of (lv := [(0, va_rf v0), (1, .int v1)]) (by decide +kernel) (by simp [lg_sl, cat_rf, cat_int, cat_long]) (by simp [lv_args, cat_rf, cat_int, cat_long]) (fun h0 K E p e s m args below meth c H locs cells slots ls X hxt hmn hw hR hl => ?_)
  have hx := X.hx
  have hb := X.hb
  unfold w_X8_lapsesIn at hw
  refine r_aload_n X dX8_lapsesIn_0 rfl (lv_at hl 0 rfl) ?_
  refine lv_iconst (v := 0) hx hb dX8_lapsesIn_1 (by decide) ?_
  refine r_put X hR fp_X8_45 (Or.inl fn_X8_45) (nf_int _) dX8_lapsesIn_2 hw (fun H locs h hR hw => ?_)
  refine r_aload_n X dX8_lapsesIn_5 rfl (lv_at hl 0 rfl) ?_
  refine lv_iload_n hx hb dX8_lapsesIn_6 rfl (lv_at hl 1 rfl) ?_
  refine r_callI X hR (c_V (ci := 8) (q := (RX8, TX8, 32)) X hR hl.1 (c_X8_isUmbrella l g v0 v1) (lw_V q1945 q1947 qs79 q125 q1948) rfl rfl mh_X8_isUmbrella rfl (by decide) (by decide) rfl (cat4 (Nat.le_of_ble_eq_true rfl)) dX8_lapsesIn_7 hw) (fun x1 h H locs cells slots hR hw => ?_)
  refine lv_if_ne (tgt := 19) hx hb dX8_lapsesIn_10 (by decide) (fun c2 => ?_) (fun c2 => ?_)
  · have hw := hw.1 c2
    refine r_aload_n X dX8_lapsesIn_19 rfl (lv_at hl 0 rfl) ?_
    refine r_callV X hR (c_V (ci := 8) (q := (RX8, TX8, 32)) X hR hl.1 (c_X8_tries l g v0) (lw_V q2075 q2077 qs93 q125 q2078) rfl rfl mh_X8_tries rfl (by decide) (by decide) rfl (cat4 (Nat.le_of_ble_eq_true rfl)) dX8_lapsesIn_20 hw) (fun _ h H locs cells slots hR hw => ?_)
    refine lv_iconst (v := 0) hx hb dX8_lapsesIn_23 (by decide) ?_
    refine lv_istore_n (i := 2) (lv' := [(2, .int 0), (0, va_rf v0), (1, .int v1)]) hx hb dX8_lapsesIn_24 rfl hl (by decide) rfl (fun ls hl => ?_)
    obtain ⟨n, hw⟩ := hw
    exact t_X8_lapsesIn_L25 X  n hw hR (lv_sub hl [1, 2, 0] rfl)
  · have hw := hw.2 c2
    refine r_aload_n X dX8_lapsesIn_13 rfl (lv_at hl 0 rfl) ?_
    refine lv_iconst (v := 1) hx hb dX8_lapsesIn_14 (by decide) ?_
    refine r_callI X hR (c_V (ci := 8) (q := (RX8, TX8, 32)) X hR hl.1 (c_X8_refused l g v0 1) (lw_V q1657 q1659 qs50 q125 q1660) rfl rfl mh_X8_refused rfl (by decide) (by decide) rfl (cat4 (Nat.le_of_ble_eq_true rfl)) dX8_lapsesIn_15 hw) (fun x11 h H locs cells slots hR hw => ?_)
    exact r_iret X hR dX8_lapsesIn_18 hw
theorem c_X8_canExchange (l : Launch) (g : GT) (v0 : Option Nat) (v1 : Option Nat) (v2 : Int32) (v3 : Int32) : CT qI l yX8_canExchange (ws_ yX8_canExchange cX8_canExchange 4 (Option.some Jvm.ClassFile.FieldType.boolean)) 1 g [va_rf v0, va_rf v1, .int v2, .int v3] (fun K E h => w_X8_canExchange g v0 v1 v2 v3 K E h) := by
  refine CT_of (lv := [(0, va_rf v0), (1, va_rf v1), (2, .int v2), (3, .int v3)]) (by decide +kernel) (by simp [lg_sl, cat_rf, cat_int, cat_long]) (by simp [lv_args, cat_rf, cat_int, cat_long]) (fun h0 K E p e s m args below meth c H locs cells slots ls X hxt hmn hw hR hl => ?_)
  have hx := X.hx
  have hb := X.hb
  unfold w_X8_canExchange at hw
  refine lv_iload_n hx hb dX8_canExchange_0 rfl (lv_at hl 2 rfl) ?_
  refine lv_iload_n hx hb dX8_canExchange_1 rfl (lv_at hl 3 rfl) ?_
  refine lv_icmp_eq (tgt := 22) hx hb dX8_canExchange_2 (by decide) (fun c1 => ?_) (fun c1 => ?_)
  · have hw := hw.1 c1
    refine lv_iconst (v := 0) hx hb dX8_canExchange_22 (by decide) ?_
    exact r_zret X hR dX8_canExchange_23 hw
  · have hw := hw.2 c1
    refine r_aload_n X dX8_canExchange_5 rfl (lv_at hl 1 rfl) ?_
    refine lv_iconst (v := 0) hx hb dX8_canExchange_6 (by decide) ?_
    refine lv_iload_n hx hb dX8_canExchange_7 rfl (lv_at hl 2 rfl) ?_
    refine lv_iadd hx hb dX8_canExchange_8 ?_
    refine r_iald X hR dX8_canExchange_9 hw (fun x2 hw => ?_)
    refine r_aload_n X dX8_canExchange_10 rfl (lv_at hl 1 rfl) ?_
    refine lv_iconst (v := 0) hx hb dX8_canExchange_11 (by decide) ?_
    refine lv_iload_n hx hb dX8_canExchange_12 rfl (lv_at hl 3 rfl) ?_
    refine lv_iadd hx hb dX8_canExchange_13 ?_
    refine r_iald X hR dX8_canExchange_14 hw (fun x3 hw => ?_)
    refine lv_icmp_eq (tgt := 22) hx hb dX8_canExchange_15 (by decide) (fun c4 => ?_) (fun c4 => ?_)
    · have hw := hw.1 c4
      refine lv_iconst (v := 0) hx hb dX8_canExchange_22 (by decide) ?_
      exact r_zret X hR dX8_canExchange_23 hw
    · have hw := hw.2 c4
      refine lv_iconst (v := 1) hx hb dX8_canExchange_18 (by decide) ?_
      refine lv_goto (tgt := 23) hx hb dX8_canExchange_19 (by decide) ?_
      exact r_zret X hR dX8_canExchange_23 hw
theorem t_X8_isDone_L2 {p : Program} {l : Launch} {e : Env} {s : State} {m : MethodId} {args : Array Value} {below : List Frame} {meth : Method} {c : Code} {g : GT} {h0 : AH} {v0 : Option Nat} {v1 : Int32} {K : Int32 → AH → Prop} {E : Nat → AH → Prop} (X : Cx g h0 p s m args meth c RX8 cX8_isDone 5 (Option.some Jvm.ClassFile.FieldType.boolean))  : ∀ (n : Nat) {v2 : Int32} {h : AH} {H : Heap} {locs : List Loc} {cells slots : Nat} {ls : Array Slot}, LpN1 (w_X8_isDone_L2 g v0 v1 K E) n v2 h → HS g s h H locs → lv_has ls 5 [(0, va_rf v0), (1, .int v1), (2, .int v2)] → W p l e (RM 2 h0) s m args below meth c H locs cells slots (MQT below g (qI K) E args s h0) (F0 m 2 ls []) := by
  have hx := X.hx
  have hb := X.hb
  intro n
  induction n with
  | zero =>
    intro v2 h H locs cells slots ls hw
    exact hw.elim
  | succ n k2 =>
    intro v2 h H locs cells slots ls hw hR hl
    have hw : w_X8_isDone_L2 g v0 v1 K E (LpN1 (w_X8_isDone_L2 g v0 v1 K E) n) v2 h := hw
    unfold w_X8_isDone_L2 at hw
    refine lv_iload_n hx hb dX8_isDone_2 rfl (lv_at hl 2 rfl) ?_
    refine lv_iload_n hx hb dX8_isDone_3 rfl (lv_at hl 1 rfl) ?_
    refine lv_icmp_ge (tgt := 78) hx hb dX8_isDone_4 (by decide) (fun c1 => ?_) (fun c1 => ?_)
    · have hw := hw.1 c1
      refine lv_iconst (v := 1) hx hb dX8_isDone_78 (by decide) ?_
      exact r_zret X hR dX8_isDone_79 hw
    · have hw := hw.2 c1
      refine r_aload_n X dX8_isDone_7 rfl (lv_at hl 0 rfl) ?_
      refine r_gR X hR fk_X8_30 dX8_isDone_8 hw (fun x2 hw => ?_)
      refine lv_iload_n hx hb dX8_isDone_11 rfl (lv_at hl 2 rfl) ?_
      refine r_iald X hR dX8_isDone_12 hw (fun x3 hw => ?_)
      refine lv_bipush (v := 10) hx hb dX8_isDone_13 (by decide) ?_
      refine lv_idiv hx hb dX8_isDone_15 (by decide) ?_
      refine r_nmI hw (fun x4 hw => ?_)
      refine lv_istore_n (i := 3) (lv' := [(3, .int x4), (0, va_rf v0), (1, .int v1), (2, .int v2)]) hx hb dX8_isDone_16 rfl hl (by decide) rfl (fun ls hl => ?_)
      refine r_aload_n X dX8_isDone_17 rfl (lv_at hl 1 rfl) ?_
      refine r_gR X hR fk_X8_30 dX8_isDone_18 hw (fun x5 hw => ?_)
      refine lv_iload_n hx hb dX8_isDone_21 rfl (lv_at hl 3 rfl) ?_
      refine r_iald X hR dX8_isDone_22 hw (fun x6 hw => ?_)
      refine lv_bipush (v := 10) hx hb dX8_isDone_23 (by decide) ?_
      refine lv_irem hx hb dX8_isDone_25 (by decide) ?_
      refine r_nmI hw (fun x7 hw => ?_)
      refine lv_istore (i := 4) (lv' := [(4, .int x7), (3, .int x4), (0, va_rf v0), (1, .int v1), (2, .int v2)]) hx hb dX8_isDone_26 hl (by decide) rfl (fun ls hl => ?_)
      refine lv_iload_n hx hb dX8_isDone_28 rfl (lv_at hl 1 rfl) ?_
      refine lv_iload hx hb dX8_isDone_29 (lv_at hl 0 rfl) ?_
      refine lv_icmp_ge (tgt := 60) hx hb dX8_isDone_31 (by decide) (fun c8 => ?_) (fun c8 => ?_)
      · have hw := hw.1 c8
        refine lv_iconst (v := 0) hx hb dX8_isDone_60 (by decide) ?_
        exact r_zret X hR dX8_isDone_61 hw
      · have hw := hw.2 c8
        refine lv_iload hx hb dX8_isDone_34 (lv_at hl 0 rfl) ?_
        refine r_aload_n X dX8_isDone_36 rfl (lv_at hl 2 rfl) ?_
        refine r_gR X hR fk_X8_316 dX8_isDone_37 hw (fun x9 hw => ?_)
        refine r_gI X hR fk_X8_194 dX8_isDone_40 hw (fun x10 hw => ?_)
        refine lv_icmp_ge (tgt := 60) hx hb dX8_isDone_43 (by decide) (fun c11 => ?_) (fun c11 => ?_)
        · have hw := hw.1 c11
          refine lv_iconst (v := 0) hx hb dX8_isDone_60 (by decide) ?_
          exact r_zret X hR dX8_isDone_61 hw
        · have hw := hw.2 c11
          refine r_aload_n X dX8_isDone_46 rfl (lv_at hl 2 rfl) ?_
          refine r_aload_n X dX8_isDone_47 rfl (lv_at hl 2 rfl) ?_
          refine r_gR X hR fk_X8_21 dX8_isDone_48 hw (fun x12 hw => ?_)
          refine lv_iload_n hx hb dX8_isDone_51 rfl (lv_at hl 1 rfl) ?_
          refine lv_iload hx hb dX8_isDone_52 (lv_at hl 0 rfl) ?_
          refine r_callI X hR (c_V (ci := 8) (q := (RX8, TX8, 32)) X hR hl.1 (c_X8_canExchange l g v0 x12 x4 x7) (lw_V q2095 q2097 qs96 q125 q2098) rfl rfl mh_X8_canExchange rfl (by decide) (by decide) rfl (cat4 (Nat.le_of_ble_eq_true rfl)) dX8_isDone_54 hw) (fun x13 h H locs cells slots hR hw => ?_)
          refine lv_if_ne (tgt := 62) hx hb dX8_isDone_57 (by decide) (fun c14 => ?_) (fun c14 => ?_)
          · have hw := hw.1 c14
            refine r_aload_n X dX8_isDone_62 rfl (lv_at hl 2 rfl) ?_
            refine r_gR X hR fk_X8_21 dX8_isDone_63 hw (fun x15 hw => ?_)
            refine lv_iload_n hx hb dX8_isDone_66 rfl (lv_at hl 1 rfl) ?_
            refine lv_iload hx hb dX8_isDone_67 (lv_at hl 0 rfl) ?_
            refine r_callV X hR (c_S X hR hl.1 (c_X8_changes l g x15 x4 x7) (lw_S q2005 q2006 q125 q2007) mh_X8_changes rfl (by decide) (by decide) rfl (cat4 (Nat.le_of_ble_eq_true rfl)) dX8_isDone_69 hw) (fun _ h H locs cells slots hR hw => ?_)
            refine r_iinc X (k := 4) (v := (v2 + 1)) (lv' := fun x16 => [(2, .int x16), (4, .int x7), (3, .int x4), (0, va_rf v0), (1, .int v1)]) dX8_isDone_72 hl rfl rfl (by decide) hw (fun _ => rfl) (fun x16 hw ls hl => ?_)
            refine lv_goto (tgt := 2) hx hb dX8_isDone_75 (by decide) ?_
            exact k2 hw hR (lv_sub hl [3, 4, 0] rfl)
          · have hw := hw.2 c14
            refine lv_iconst (v := 0) hx hb dX8_isDone_60 (by decide) ?_
            exact r_zret X hR dX8_isDone_61 hw
theorem c_X8_isDone (l : Launch) (g : GT) (v0 : Option Nat) (v1 : Int32) : CT qI l yX8_isDone (ws_ yX8_isDone cX8_isDone 5 (Option.some Jvm.ClassFile.FieldType.boolean)) 2 g [va_rf v0, .int v1] (fun K E h => w_X8_isDone g v0 v1 K E h) := by
  refine CT_of (lv := [(0, va_rf v0), (1, .int v1)]) (by decide +kernel) (by simp [lg_sl, cat_rf, cat_int, cat_long]) (by simp [lv_args, cat_rf, cat_int, cat_long]) (fun h0 K E p e s m args below meth c H locs cells slots ls X hxt hmn hw hR hl => ?_)
  have hx := X.hx
  have hb := X.hb
  unfold w_X8_isDone at hw
  refine lv_iconst (v := 0) hx hb dX8_isDone_0 (by decide) ?_
  refine lv_istore_n (i := 2) (lv' := [(2, .int 0), (0, va_rf v0), (1, .int v1)]) hx hb dX8_isDone_1 rfl hl (by decide) rfl (fun ls hl => ?_)
  obtain ⟨n, hw⟩ := hw
  exact t_X8_isDone_L2 X  n hw hR (lv_sub hl [1, 2, 0] rfl)
theorem t_X8_takes_L33 {p : Program} {l : Launch} {e : Env} {s : State} {m : MethodId} {args : Array Value} {below : List Frame} {meth : Method} {c : Code} {g : GT} {h0 : AH} {v0 : Option Nat} {v1 : Int32} {K : Unit → AH → Prop} {E : Nat → AH → Prop} (X : Cx g h0 p s m args meth c RX8 cX8_takes 4 none)  : ∀ (n : Nat) {v3 : Int32} {h : AH} {H : Heap} {locs : List Loc} {cells slots : Nat} {ls : Array Slot}, LpN1 (w_X8_takes_L33 g v0 v1 K E) n v3 h → HS g s h H locs → lv_has ls 4 [(0, va_rf v0), (1, .int v1), (3, .int v3)] → W p l e (RM 2 h0) s m args below meth c H locs cells slots (MQT below g (qV K) E args s h0) (F0 m 33 ls []) := by
  have hx := X.hx
  have hb := X.hb
  intro n
  induction n with
  | zero =>
    intro v3 h H locs cells slots ls hw
    exact hw.elim
  | succ n k33 =>
    intro v3 h H locs cells slots ls hw hR hl
    have hw : w_X8_takes_L33 g v0 v1 K E (LpN1 (w_X8_takes_L33 g v0 v1 K E) n) v3 h := hw
    unfold w_X8_takes_L33 at hw
    refine lv_iload_n hx hb dX8_takes_33 rfl (lv_at hl 2 rfl) ?_
    refine lv_iload_n hx hb dX8_takes_34 rfl (lv_at hl 1 rfl) ?_
    refine lv_icmp_ge (tgt := 56) hx hb dX8_takes_35 (by decide) (fun c6 => ?_) (fun c6 => ?_)
    · have hw := hw.1 c6
      exact r_vret X hR rfl dX8_takes_56 hw
    · have hw := hw.2 c6
      refine r_aload_n X dX8_takes_38 rfl (lv_at hl 0 rfl) ?_
      refine r_gR X hR fk_X8_33 dX8_takes_39 hw (fun x7 hw => ?_)
      refine lv_iload_n hx hb dX8_takes_42 rfl (lv_at hl 2 rfl) ?_
      refine r_aload_n X dX8_takes_43 rfl (lv_at hl 0 rfl) ?_
      refine r_gR X hR fk_X8_30 dX8_takes_44 hw (fun x8 hw => ?_)
      refine lv_iload_n hx hb dX8_takes_47 rfl (lv_at hl 2 rfl) ?_
      refine r_iald X hR dX8_takes_48 hw (fun x9 hw => ?_)
      refine r_iast X hR dX8_takes_49 hw (fun H locs h hR hw => ?_)
      refine r_iinc X (k := 2) (v := (v3 + 1)) (lv' := fun x10 => [(3, .int x10), (0, va_rf v0), (1, .int v1)]) dX8_takes_50 hl rfl rfl (by decide) hw (fun _ => rfl) (fun x10 hw ls hl => ?_)
      refine lv_goto (tgt := 33) hx hb dX8_takes_53 (by decide) ?_
      exact k33 hw hR (lv_sub hl [1, 2, 0] rfl)
theorem c_X8_takes (l : Launch) (g : GT) (v0 : Option Nat) (v1 : Int32) : CT qV l yX8_takes (ws_ yX8_takes cX8_takes 4 none) 2 g [va_rf v0, .int v1] (fun K E h => w_X8_takes g v0 v1 K E h) := by
  refine CT_of (lv := [(0, va_rf v0), (1, .int v1)]) (by decide +kernel) (by simp [lg_sl, cat_rf, cat_int, cat_long]) (by simp [lv_args, cat_rf, cat_int, cat_long]) (fun h0 K E p e s m args below meth c H locs cells slots ls X hxt hmn hw hR hl => ?_)
  have hx := X.hx
  have hb := X.hb
  unfold w_X8_takes at hw
  refine r_aload_n X dX8_takes_0 rfl (lv_at hl 0 rfl) ?_
  refine r_aload_n X dX8_takes_1 rfl (lv_at hl 0 rfl) ?_
  refine r_gR X hR fk_X8_21 dX8_takes_2 hw (fun x1 hw => ?_)
  refine r_callI X hR (c_V (ci := 8) (q := (RX8, TX8, 32)) X hR hl.1 (c_X8_rightIn l g v0 x1) (lw_V q1977 q1979 qs83 q125 q1980) rfl rfl mh_X8_rightIn rfl (by decide) (by decide) rfl (cat4 (Nat.le_of_ble_eq_true rfl)) dX8_takes_5 hw) (fun x2 h H locs cells slots hR hw => ?_)
  refine r_callI X hR (c_S X hR hl.1 (c_X8_bits l g x2) (lw_S q2020 q2021 q125 q2022) mh_X8_bits rfl (by decide) (by decide) rfl (cat4 (Nat.le_of_ble_eq_true rfl)) dX8_takes_8 hw) (fun x3 h H locs cells slots hR hw => ?_)
  refine lv_istore_n (i := 2) (lv' := [(2, .int x3), (0, va_rf v0), (1, .int v1)]) hx hb dX8_takes_11 rfl hl (by decide) rfl (fun ls hl => ?_)
  refine lv_iload_n hx hb dX8_takes_12 rfl (lv_at hl 0 rfl) ?_
  refine r_aload_n X dX8_takes_13 rfl (lv_at hl 1 rfl) ?_
  refine r_gI X hR fk_X8_396 dX8_takes_14 hw (fun x4 hw => ?_)
  refine lv_icmp_gt (tgt := 21) hx hb dX8_takes_17 (by decide) (fun c5 => ?_) (fun c5 => ?_)
  · have hw := hw.1 c5
    refine r_aload_n X dX8_takes_21 rfl (lv_at hl 1 rfl) ?_
    refine lv_iload_n hx hb dX8_takes_22 rfl (lv_at hl 0 rfl) ?_
    refine r_put X hR fp_X8_396 (Or.inl fn_X8_396) (nf_int _) dX8_takes_23 hw (fun H locs h hR hw => ?_)
    refine r_aload_n X dX8_takes_26 rfl (lv_at hl 1 rfl) ?_
    refine lv_iload_n hx hb dX8_takes_27 rfl (lv_at hl 2 rfl) ?_
    refine r_put X hR fp_X8_408 (Or.inl fn_X8_408) (nf_int _) dX8_takes_28 hw (fun H locs h hR hw => ?_)
    refine lv_iconst (v := 0) hx hb dX8_takes_31 (by decide) ?_
    refine lv_istore_n (i := 3) (lv' := [(3, .int 0), (2, .int x3), (0, va_rf v0), (1, .int v1)]) hx hb dX8_takes_32 rfl hl (by decide) rfl (fun ls hl => ?_)
    obtain ⟨n, hw⟩ := hw
    exact t_X8_takes_L33 X  n hw hR (lv_sub hl [2, 3, 0] rfl)
  · have hw := hw.2 c5
    exact r_vret X hR rfl dX8_takes_20 hw
theorem t_X8_nextRow_L4 {p : Program} {l : Launch} {e : Env} {s : State} {m : MethodId} {args : Array Value} {below : List Frame} {meth : Method} {c : Code} {g : GT} {h0 : AH} {v0 : Option Nat} {K : Int32 → AH → Prop} {E : Nat → AH → Prop} (X : Cx g h0 p s m args meth c RX8 cX8_nextRow 3 (Option.some Jvm.ClassFile.FieldType.boolean))  : ∀ (n : Nat) {v2 : Int32} {h : AH} {H : Heap} {locs : List Loc} {cells slots : Nat} {ls : Array Slot}, LpN1 (w_X8_nextRow_L4 g v0 K E) n v2 h → HS g s h H locs → lv_has ls 3 [(0, va_rf v0), (2, .int v2)] → W p l e (RM 1 h0) s m args below meth c H locs cells slots (MQT below g (qI K) E args s h0) (F0 m 4 ls []) := by
  have hx := X.hx
  have hb := X.hb
  intro n
  induction n with
  | zero =>
    intro v2 h H locs cells slots ls hw
    exact hw.elim
  | succ n k4 =>
    intro v2 h H locs cells slots ls hw hR hl
    have hw : w_X8_nextRow_L4 g v0 K E (LpN1 (w_X8_nextRow_L4 g v0 K E) n) v2 h := hw
    unfold w_X8_nextRow_L4 at hw
    refine lv_iload_n hx hb dX8_nextRow_4 rfl (lv_at hl 1 rfl) ?_
    refine lv_if_lt (tgt := 44) hx hb dX8_nextRow_5 (by decide) (fun c2 => ?_) (fun c2 => ?_)
    · have hw := hw.1 c2
      refine lv_iconst (v := 0) hx hb dX8_nextRow_44 (by decide) ?_
      exact r_zret X hR dX8_nextRow_45 hw
    · have hw := hw.2 c2
      refine r_aload_n X dX8_nextRow_8 rfl (lv_at hl 0 rfl) ?_
      refine r_gR X hR fk_X8_30 dX8_nextRow_9 hw (fun x3 hw => ?_)
      refine lv_iload_n hx hb dX8_nextRow_12 rfl (lv_at hl 1 rfl) ?_
      refine lv_dup2_11 hx hb dX8_nextRow_13 rfl (cat_rf _) ?_
      refine r_iald X hR dX8_nextRow_14 hw (fun x4 hw => ?_)
      refine lv_iconst (v := 1) hx hb dX8_nextRow_15 (by decide) ?_
      refine lv_iadd hx hb dX8_nextRow_16 ?_
      refine r_iast X hR dX8_nextRow_17 hw (fun H locs h hR hw => ?_)
      refine r_aload_n X dX8_nextRow_18 rfl (lv_at hl 0 rfl) ?_
      refine r_gR X hR fk_X8_30 dX8_nextRow_19 hw (fun x5 hw => ?_)
      refine lv_iload_n hx hb dX8_nextRow_22 rfl (lv_at hl 1 rfl) ?_
      refine r_iald X hR dX8_nextRow_23 hw (fun x6 hw => ?_)
      refine lv_bipush (v := 50) hx hb dX8_nextRow_24 (by decide) ?_
      refine lv_icmp_ge (tgt := 31) hx hb dX8_nextRow_26 (by decide) (fun c7 => ?_) (fun c7 => ?_)
      · have hw := hw.1 c7
        refine r_aload_n X dX8_nextRow_31 rfl (lv_at hl 0 rfl) ?_
        refine r_gR X hR fk_X8_30 dX8_nextRow_32 hw (fun x8 hw => ?_)
        refine lv_iload_n hx hb dX8_nextRow_35 rfl (lv_at hl 1 rfl) ?_
        refine lv_iconst (v := 0) hx hb dX8_nextRow_36 (by decide) ?_
        refine r_iast X hR dX8_nextRow_37 hw (fun H locs h hR hw => ?_)
        refine r_iinc X (k := 1) (v := (v2 + (-1))) (lv' := fun x9 => [(2, .int x9), (0, va_rf v0)]) dX8_nextRow_38 hl rfl rfl (by decide) hw (fun _ => rfl) (fun x9 hw ls hl => ?_)
        refine lv_goto (tgt := 4) hx hb dX8_nextRow_41 (by decide) ?_
        exact k4 hw hR (lv_sub hl [1, 0] rfl)
      · have hw := hw.2 c7
        refine lv_iconst (v := 1) hx hb dX8_nextRow_29 (by decide) ?_
        exact r_zret X hR dX8_nextRow_30 hw
theorem c_X8_nextRow (l : Launch) (g : GT) (v0 : Option Nat) (v1 : Int32) : CT qI l yX8_nextRow (ws_ yX8_nextRow cX8_nextRow 3 (Option.some Jvm.ClassFile.FieldType.boolean)) 1 g [va_rf v0, .int v1] (fun K E h => w_X8_nextRow g v0 v1 K E h) := by
  refine CT_of (lv := [(0, va_rf v0), (1, .int v1)]) (by decide +kernel) (by simp [lg_sl, cat_rf, cat_int, cat_long]) (by simp [lv_args, cat_rf, cat_int, cat_long]) (fun h0 K E p e s m args below meth c H locs cells slots ls X hxt hmn hw hR hl => ?_)
  have hx := X.hx
  have hb := X.hb
  unfold w_X8_nextRow at hw
  refine lv_iload_n hx hb dX8_nextRow_0 rfl (lv_at hl 1 rfl) ?_
  refine lv_iconst (v := 1) hx hb dX8_nextRow_1 (by decide) ?_
  refine lv_isub hx hb dX8_nextRow_2 ?_
  refine r_nmI hw (fun x1 hw => ?_)
  refine lv_istore_n (i := 2) (lv' := [(2, .int x1), (0, va_rf v0), (1, .int v1)]) hx hb dX8_nextRow_3 rfl hl (by decide) rfl (fun ls hl => ?_)
  obtain ⟨n, hw⟩ := hw
  exact t_X8_nextRow_L4 X  n hw hR (lv_sub hl [1, 0] rfl)
theorem t_X8_seeks_J55 {p : Program} {l : Launch} {e : Env} {s : State} {m : MethodId} {args : Array Value} {below : List Frame} {meth : Method} {c : Code} {g : GT} {h0 : AH} {v0 : Option Nat} {v1 : Int32} {K : Unit → AH → Prop} {E : Nat → AH → Prop} {L34 : Int32 → AH → Prop} {h : AH} {H : Heap} {locs : List Loc} {cells slots : Nat} {ls : Array Slot} (X : Cx g h0 p s m args meth c RX8 cX8_seeks 3 none) (k34 : ∀ {v2' : Int32} {h : AH} {H : Heap} {locs : List Loc} {cells slots : Nat} {ls : Array Slot}, L34 v2' h → HS g s h H locs → lv_has ls 3 [(0, va_rf v0), (1, .int v1), (2, .int (v2'))] → W p l e (RM 3 h0) s m args below meth c H locs cells slots (MQT below g (qV K) E args s h0) (F0 m 34 ls [])) (hw : w_X8_seeks_J55 g v0 v1 K E L34 h) (hR : HS g s h H locs) (hl : lv_has ls 3 [(0, va_rf v0), (1, .int v1)]) : W p l e (RM 3 h0) s m args below meth c H locs cells slots (MQT below g (qV K) E args s h0) (F0 m 55 ls []) := by
  have hx := X.hx
  have hb := X.hb
  unfold w_X8_seeks_J55 at hw
  refine r_aload_n X dX8_seeks_55 rfl (lv_at hl 0 rfl) ?_
  refine lv_iload_n hx hb dX8_seeks_56 rfl (lv_at hl 1 rfl) ?_
  refine r_callI X hR (c_V (ci := 8) (q := (RX8, TX8, 32)) X hR hl.1 (c_X8_nextRow l g v0 v1) (lw_V q2103 q2105 qs98 q125 q2106) rfl rfl mh_X8_nextRow rfl (by decide) (by decide) rfl (cat4 (Nat.le_of_ble_eq_true rfl)) dX8_seeks_57 hw) (fun x7 h H locs cells slots hR hw => ?_)
  refine lv_istore_n (i := 2) (lv' := [(2, .int x7), (0, va_rf v0), (1, .int v1)]) hx hb dX8_seeks_60 rfl hl (by decide) rfl (fun ls hl => ?_)
  refine lv_goto (tgt := 34) hx hb dX8_seeks_61 (by decide) ?_
  exact k34 hw hR (lv_sub hl [1, 2, 0] rfl)
theorem t_X8_seeks_L34 {p : Program} {l : Launch} {e : Env} {s : State} {m : MethodId} {args : Array Value} {below : List Frame} {meth : Method} {c : Code} {g : GT} {h0 : AH} {v0 : Option Nat} {v1 : Int32} {K : Unit → AH → Prop} {E : Nat → AH → Prop} {L7 : Int32 → AH → Prop} (X : Cx g h0 p s m args meth c RX8 cX8_seeks 3 none) (k7 : ∀ {v1' : Int32} {h : AH} {H : Heap} {locs : List Loc} {cells slots : Nat} {ls : Array Slot}, L7 v1' h → HS g s h H locs → lv_has ls 3 [(0, va_rf v0), (1, .int (v1'))] → W p l e (RM 3 h0) s m args below meth c H locs cells slots (MQT below g (qV K) E args s h0) (F0 m 7 ls [])) : ∀ (n : Nat) {v2 : Int32} {h : AH} {H : Heap} {locs : List Loc} {cells slots : Nat} {ls : Array Slot}, LpN1 (w_X8_seeks_L34 g v0 v1 K E L7) n v2 h → HS g s h H locs → lv_has ls 3 [(0, va_rf v0), (1, .int v1), (2, .int v2)] → W p l e (RM 3 h0) s m args below meth c H locs cells slots (MQT below g (qV K) E args s h0) (F0 m 34 ls []) := by
  have hx := X.hx
  have hb := X.hb
  intro n
  induction n with
  | zero =>
    intro v2 h H locs cells slots ls hw
    exact hw.elim
  | succ n k34 =>
    intro v2 h H locs cells slots ls hw hR hl
    have hw : w_X8_seeks_L34 g v0 v1 K E L7 (LpN1 (w_X8_seeks_L34 g v0 v1 K E L7) n) v2 h := hw
    unfold w_X8_seeks_L34 at hw
    refine lv_iload_n hx hb dX8_seeks_34 rfl (lv_at hl 2 rfl) ?_
    refine lv_if_eq (tgt := 64) hx hb dX8_seeks_35 (by decide) (fun c3 => ?_) (fun c3 => ?_)
    · have hw := hw.1 c3
      refine r_iinc X (k := 1) (v := (v1 + 1)) (lv' := fun x4 => [(1, .int x4), (0, va_rf v0), (2, .int v2)]) dX8_seeks_64 hl rfl rfl (by decide) hw (fun _ => by simp [cat_rf, cat_int, cat_long]) (fun x4 hw ls hl => ?_)
      refine lv_goto (tgt := 7) hx hb dX8_seeks_67 (by decide) ?_
      exact k7 hw hR (lv_sub hl [1, 0] rfl)
    · have hw := hw.2 c3
      refine r_aload_n X dX8_seeks_38 rfl (lv_at hl 0 rfl) ?_
      refine r_callV X hR (c_V (ci := 8) (q := (RX8, TX8, 32)) X hR hl.1 (c_X8_tries l g v0) (lw_V q2075 q2077 qs93 q125 q2078) rfl rfl mh_X8_tries rfl (by decide) (by decide) rfl (cat4 (Nat.le_of_ble_eq_true rfl)) dX8_seeks_39 hw) (fun _ h H locs cells slots hR hw => ?_)
      refine r_aload_n X dX8_seeks_42 rfl (lv_at hl 0 rfl) ?_
      refine lv_iload_n hx hb dX8_seeks_43 rfl (lv_at hl 1 rfl) ?_
      refine r_callI X hR (c_V (ci := 8) (q := (RX8, TX8, 32)) X hR hl.1 (c_X8_isDone l g v0 v1) (lw_V q2091 q2093 qs95 q125 q2094) rfl rfl mh_X8_isDone rfl (by decide) (by decide) rfl (cat4 (Nat.le_of_ble_eq_true rfl)) dX8_seeks_44 hw) (fun x5 h H locs cells slots hR hw => ?_)
      refine lv_if_eq (tgt := 55) hx hb dX8_seeks_47 (by decide) (fun c6 => ?_) (fun c6 => ?_)
      · have hw := hw.1 c6
        exact t_X8_seeks_J55 X k34 hw hR (lv_sub hl [0, 1] rfl)
      · have hw := hw.2 c6
        refine r_aload_n X dX8_seeks_50 rfl (lv_at hl 0 rfl) ?_
        refine lv_iload_n hx hb dX8_seeks_51 rfl (lv_at hl 1 rfl) ?_
        refine r_callV X hR (c_V (ci := 8) (q := (RX8, TX8, 32)) X hR hl.1 (c_X8_takes l g v0 v1) (lw_V q2099 q2101 qs97 q125 q2102) rfl rfl mh_X8_takes rfl (by decide) (by decide) rfl (cat4 (Nat.le_of_ble_eq_true rfl)) dX8_seeks_52 hw) (fun _ h H locs cells slots hR hw => ?_)
        exact t_X8_seeks_J55 X k34 hw hR (lv_sub hl [0, 1] rfl)
theorem t_X8_seeks_L14 {p : Program} {l : Launch} {e : Env} {s : State} {m : MethodId} {args : Array Value} {below : List Frame} {meth : Method} {c : Code} {g : GT} {h0 : AH} {v0 : Option Nat} {v1 : Int32} {K : Unit → AH → Prop} {E : Nat → AH → Prop} {L7 : Int32 → AH → Prop} (X : Cx g h0 p s m args meth c RX8 cX8_seeks 3 none) (k7 : ∀ {v1' : Int32} {h : AH} {H : Heap} {locs : List Loc} {cells slots : Nat} {ls : Array Slot}, L7 v1' h → HS g s h H locs → lv_has ls 3 [(0, va_rf v0), (1, .int (v1'))] → W p l e (RM 3 h0) s m args below meth c H locs cells slots (MQT below g (qV K) E args s h0) (F0 m 7 ls [])) : ∀ (n : Nat) {v2 : Int32} {h : AH} {H : Heap} {locs : List Loc} {cells slots : Nat} {ls : Array Slot}, LpN1 (w_X8_seeks_L14 g v0 v1 K E L7) n v2 h → HS g s h H locs → lv_has ls 3 [(0, va_rf v0), (1, .int v1), (2, .int v2)] → W p l e (RM 3 h0) s m args below meth c H locs cells slots (MQT below g (qV K) E args s h0) (F0 m 14 ls []) := by
  have hx := X.hx
  have hb := X.hb
  intro n
  induction n with
  | zero =>
    intro v2 h H locs cells slots ls hw
    exact hw.elim
  | succ n k14 =>
    intro v2 h H locs cells slots ls hw hR hl
    have hw : w_X8_seeks_L14 g v0 v1 K E L7 (LpN1 (w_X8_seeks_L14 g v0 v1 K E L7) n) v2 h := hw
    unfold w_X8_seeks_L14 at hw
    refine lv_iload_n hx hb dX8_seeks_14 rfl (lv_at hl 2 rfl) ?_
    refine lv_iload_n hx hb dX8_seeks_15 rfl (lv_at hl 1 rfl) ?_
    refine lv_icmp_ge (tgt := 32) hx hb dX8_seeks_16 (by decide) (fun c2 => ?_) (fun c2 => ?_)
    · have hw := hw.1 c2
      refine lv_iconst (v := 1) hx hb dX8_seeks_32 (by decide) ?_
      refine lv_istore_n (i := 2) (lv' := [(2, .int 1), (0, va_rf v0), (1, .int v1)]) hx hb dX8_seeks_33 rfl hl (by decide) rfl (fun ls hl => ?_)
      obtain ⟨n, hw⟩ := hw
      exact t_X8_seeks_L34 X k7 n hw hR (lv_sub hl [1, 2, 0] rfl)
    · have hw := hw.2 c2
      refine r_aload_n X dX8_seeks_19 rfl (lv_at hl 0 rfl) ?_
      refine r_gR X hR fk_X8_30 dX8_seeks_20 hw (fun x8 hw => ?_)
      refine lv_iload_n hx hb dX8_seeks_23 rfl (lv_at hl 2 rfl) ?_
      refine lv_iconst (v := 0) hx hb dX8_seeks_24 (by decide) ?_
      refine r_iast X hR dX8_seeks_25 hw (fun H locs h hR hw => ?_)
      refine r_iinc X (k := 2) (v := (v2 + 1)) (lv' := fun x9 => [(2, .int x9), (0, va_rf v0), (1, .int v1)]) dX8_seeks_26 hl rfl rfl (by decide) hw (fun _ => rfl) (fun x9 hw ls hl => ?_)
      refine lv_goto (tgt := 14) hx hb dX8_seeks_29 (by decide) ?_
      exact k14 hw hR (lv_sub hl [1, 2, 0] rfl)
theorem t_X8_seeks_L7 {p : Program} {l : Launch} {e : Env} {s : State} {m : MethodId} {args : Array Value} {below : List Frame} {meth : Method} {c : Code} {g : GT} {h0 : AH} {v0 : Option Nat} {K : Unit → AH → Prop} {E : Nat → AH → Prop} (X : Cx g h0 p s m args meth c RX8 cX8_seeks 3 none)  : ∀ (n : Nat) {v1 : Int32} {h : AH} {H : Heap} {locs : List Loc} {cells slots : Nat} {ls : Array Slot}, LpN1 (w_X8_seeks_L7 g v0 K E) n v1 h → HS g s h H locs → lv_has ls 3 [(0, va_rf v0), (1, .int v1)] → W p l e (RM 3 h0) s m args below meth c H locs cells slots (MQT below g (qV K) E args s h0) (F0 m 7 ls []) := by
  have hx := X.hx
  have hb := X.hb
  intro n
  induction n with
  | zero =>
    intro v1 h H locs cells slots ls hw
    exact hw.elim
  | succ n k7 =>
    intro v1 h H locs cells slots ls hw hR hl
    have hw : w_X8_seeks_L7 g v0 K E (LpN1 (w_X8_seeks_L7 g v0 K E) n) v1 h := hw
    unfold w_X8_seeks_L7 at hw
    refine lv_iload_n hx hb dX8_seeks_7 rfl (lv_at hl 1 rfl) ?_
    refine lv_iconst (v := 3) hx hb dX8_seeks_8 (by decide) ?_
    refine lv_icmp_gt (tgt := 70) hx hb dX8_seeks_9 (by decide) (fun c1 => ?_) (fun c1 => ?_)
    · have hw := hw.1 c1
      exact r_vret X hR rfl dX8_seeks_70 hw
    · have hw := hw.2 c1
      refine lv_iconst (v := 0) hx hb dX8_seeks_12 (by decide) ?_
      refine lv_istore_n (i := 2) (lv' := [(2, .int 0), (0, va_rf v0), (1, .int v1)]) hx hb dX8_seeks_13 rfl hl (by decide) rfl (fun ls hl => ?_)
      obtain ⟨n, hw⟩ := hw
      exact t_X8_seeks_L14 X k7 n hw hR (lv_sub hl [1, 2, 0] rfl)
theorem c_X8_seeks (l : Launch) (g : GT) (v0 : Option Nat) : CT qV l yX8_seeks (ws_ yX8_seeks cX8_seeks 3 none) 3 g [va_rf v0] (fun K E h => w_X8_seeks g v0 K E h) := by
  refine CT_of (lv := [(0, va_rf v0)]) (by decide +kernel) (by simp [lg_sl, cat_rf, cat_int, cat_long]) (by simp [lv_args, cat_rf, cat_int, cat_long]) (fun h0 K E p e s m args below meth c H locs cells slots ls X hxt hmn hw hR hl => ?_)
  have hx := X.hx
  have hb := X.hb
  unfold w_X8_seeks at hw
  refine r_aload_n X dX8_seeks_0 rfl (lv_at hl 0 rfl) ?_
  refine lv_iconst (v := (-1)) hx hb dX8_seeks_1 (by decide) ?_
  refine r_put X hR fp_X8_396 (Or.inl fn_X8_396) (nf_int _) dX8_seeks_2 hw (fun H locs h hR hw => ?_)
  refine lv_iconst (v := 0) hx hb dX8_seeks_5 (by decide) ?_
  refine lv_istore_n (i := 1) (lv' := [(1, .int 0), (0, va_rf v0)]) hx hb dX8_seeks_6 rfl hl (by decide) (by simp [cat_rf, cat_int, cat_long]) (fun ls hl => ?_)
  obtain ⟨n, hw⟩ := hw
  exact t_X8_seeks_L7 X  n hw hR (lv_sub hl [1, 0] rfl)
theorem c_X8_putRight (l : Launch) (g : GT) (v0 : Option Nat) : CT qI l yX8_putRight (ws_ yX8_putRight cX8_putRight 1 (Option.some Jvm.ClassFile.FieldType.int)) 4 g [va_rf v0] (fun K E h => w_X8_putRight g v0 K E h) := by
  refine CT_of (lv := [(0, va_rf v0)]) (by decide +kernel) (by simp [lg_sl, cat_rf, cat_int, cat_long]) (by simp [lv_args, cat_rf, cat_int, cat_long]) (fun h0 K E p e s m args below meth c H locs cells slots ls X hxt hmn hw hR hl => ?_)
  have hx := X.hx
  have hb := X.hb
  unfold w_X8_putRight at hw
  refine r_aload_n X dX8_putRight_0 rfl (lv_at hl 0 rfl) ?_
  refine lv_iconst (v := 0) hx hb dX8_putRight_1 (by decide) ?_
  refine r_put X hR fp_X8_45 (Or.inl fn_X8_45) (nf_int _) dX8_putRight_2 hw (fun H locs h hR hw => ?_)
  refine r_aload_n X dX8_putRight_5 rfl (lv_at hl 0 rfl) ?_
  refine r_gR X hR fk_X8_316 dX8_putRight_6 hw (fun x1 hw => ?_)
  refine r_ifnonnull (tgt := 18) X dX8_putRight_9 (by decide) (fun c2 => ?_) (fun c2 => ?_)
  · have hw := hw.1 c2
    refine r_aload_n X dX8_putRight_18 rfl (lv_at hl 0 rfl) ?_
    refine r_callV X hR (c_V (ci := 8) (q := (RX8, TX8, 32)) X hR hl.1 (c_X8_seeks l g v0) (lw_V q2087 q2089 qs94 q125 q2090) rfl rfl mh_X8_seeks rfl (by decide) (by decide) rfl (cat4 (Nat.le_of_ble_eq_true rfl)) dX8_putRight_19 hw) (fun _ h H locs cells slots hR hw => ?_)
    refine r_aload_n X dX8_putRight_22 rfl (lv_at hl 0 rfl) ?_
    refine r_aload_n X dX8_putRight_23 rfl (lv_at hl 0 rfl) ?_
    refine r_gI X hR fk_X8_396 dX8_putRight_24 hw (fun x3 hw => ?_)
    refine r_callI X hR (c_V (ci := 8) (q := (RX8, TX8, 32)) X hR hl.1 (c_X8_good l g v0 x3) (lw_V q1929 q1931 qs78 q125 q1932) rfl rfl mh_X8_good rfl (by decide) (by decide) rfl (cat4 (Nat.le_of_ble_eq_true rfl)) dX8_putRight_27 hw) (fun x4 h H locs cells slots hR hw => ?_)
    exact r_iret X hR dX8_putRight_30 hw
  · have hw := hw.2 c2
    refine r_aload_n X dX8_putRight_12 rfl (lv_at hl 0 rfl) ?_
    refine lv_iconst (v := 1) hx hb dX8_putRight_13 (by decide) ?_
    refine r_callI X hR (c_V (ci := 8) (q := (RX8, TX8, 32)) X hR hl.1 (c_X8_refused l g v0 1) (lw_V q1657 q1659 qs50 q125 q1660) rfl rfl mh_X8_refused rfl (by decide) (by decide) rfl (cat4 (Nat.le_of_ble_eq_true rfl)) dX8_putRight_14 hw) (fun x5 h H locs cells slots hR hw => ?_)
    exact r_iret X hR dX8_putRight_17 hw
theorem c_X8_exchanges (l : Launch) (g : GT) (v0 : Option Nat) : CT qI l yX8_exchanges (ws_ yX8_exchanges cX8_exchanges 1 (Option.some Jvm.ClassFile.FieldType.int)) 4 g [va_rf v0] (fun K E h => w_X8_exchanges g v0 K E h) := by
  refine CT_of (lv := [(0, va_rf v0)]) (by decide +kernel) (by simp [lg_sl, cat_rf, cat_int, cat_long]) (by simp [lv_args, cat_rf, cat_int, cat_long]) (fun h0 K E p e s m args below meth c H locs cells slots ls X hxt hmn hw hR hl => ?_)
  have hx := X.hx
  have hb := X.hb
  unfold w_X8_exchanges at hw
  refine r_aload_n X dX8_exchanges_0 rfl (lv_at hl 0 rfl) ?_
  refine lv_iconst (v := 0) hx hb dX8_exchanges_1 (by decide) ?_
  refine r_put X hR fp_X8_45 (Or.inl fn_X8_45) (nf_int _) dX8_exchanges_2 hw (fun H locs h hR hw => ?_)
  refine r_aload_n X dX8_exchanges_5 rfl (lv_at hl 0 rfl) ?_
  refine r_gR X hR fk_X8_316 dX8_exchanges_6 hw (fun x1 hw => ?_)
  refine r_ifnonnull (tgt := 18) X dX8_exchanges_9 (by decide) (fun c2 => ?_) (fun c2 => ?_)
  · have hw := hw.1 c2
    refine r_aload_n X dX8_exchanges_18 rfl (lv_at hl 0 rfl) ?_
    refine r_callV X hR (c_V (ci := 8) (q := (RX8, TX8, 32)) X hR hl.1 (c_X8_seeks l g v0) (lw_V q2087 q2089 qs94 q125 q2090) rfl rfl mh_X8_seeks rfl (by decide) (by decide) rfl (cat4 (Nat.le_of_ble_eq_true rfl)) dX8_exchanges_19 hw) (fun _ h H locs cells slots hR hw => ?_)
    refine r_aload_n X dX8_exchanges_22 rfl (lv_at hl 0 rfl) ?_
    refine r_aload_n X dX8_exchanges_23 rfl (lv_at hl 0 rfl) ?_
    refine r_gI X hR fk_X8_408 dX8_exchanges_24 hw (fun x3 hw => ?_)
    refine r_callI X hR (c_V (ci := 8) (q := (RX8, TX8, 32)) X hR hl.1 (c_X8_good l g v0 x3) (lw_V q1929 q1931 qs78 q125 q1932) rfl rfl mh_X8_good rfl (by decide) (by decide) rfl (cat4 (Nat.le_of_ble_eq_true rfl)) dX8_exchanges_27 hw) (fun x4 h H locs cells slots hR hw => ?_)
    exact r_iret X hR dX8_exchanges_30 hw
  · have hw := hw.2 c2
    refine r_aload_n X dX8_exchanges_12 rfl (lv_at hl 0 rfl) ?_
    refine lv_iconst (v := 1) hx hb dX8_exchanges_13 (by decide) ?_
    refine r_callI X hR (c_V (ci := 8) (q := (RX8, TX8, 32)) X hR hl.1 (c_X8_refused l g v0 1) (lw_V q1657 q1659 qs50 q125 q1660) rfl rfl mh_X8_refused rfl (by decide) (by decide) rfl (cat4 (Nat.le_of_ble_eq_true rfl)) dX8_exchanges_14 hw) (fun x5 h H locs cells slots hR hw => ?_)
    exact r_iret X hR dX8_exchanges_17 hw
theorem t_X8_exchangeAt_J47 {p : Program} {l : Launch} {e : Env} {s : State} {m : MethodId} {args : Array Value} {below : List Frame} {meth : Method} {c : Code} {g : GT} {h0 : AH} {v0 : Option Nat} {K : Int32 → AH → Prop} {E : Nat → AH → Prop} {h : AH} {H : Heap} {locs : List Loc} {cells slots : Nat} {ls : Array Slot} (X : Cx g h0 p s m args meth c RX8 cX8_exchangeAt 2 (Option.some Jvm.ClassFile.FieldType.int))  (hw : w_X8_exchangeAt_J47 g v0 K E h) (hR : HS g s h H locs) (hl : lv_has ls 2 [(0, va_rf v0)]) : W p l e (RM 4 h0) s m args below meth c H locs cells slots (MQT below g (qI K) E args s h0) (F0 m 47 ls []) := by
  have hx := X.hx
  have hb := X.hb
  unfold w_X8_exchangeAt_J47 at hw
  refine r_aload_n X dX8_exchangeAt_47 rfl (lv_at hl 0 rfl) ?_
  refine lv_iconst (v := 1) hx hb dX8_exchangeAt_48 (by decide) ?_
  refine r_callI X hR (c_V (ci := 8) (q := (RX8, TX8, 32)) X hR hl.1 (c_X8_refused l g v0 1) (lw_V q1657 q1659 qs50 q125 q1660) rfl rfl mh_X8_refused rfl (by decide) (by decide) rfl (cat4 (Nat.le_of_ble_eq_true rfl)) dX8_exchangeAt_49 hw) (fun x4 h H locs cells slots hR hw => ?_)
  exact r_iret X hR dX8_exchangeAt_52 hw
theorem c_X8_exchangeAt (l : Launch) (g : GT) (v0 : Option Nat) (v1 : Int32) : CT qI l yX8_exchangeAt (ws_ yX8_exchangeAt cX8_exchangeAt 2 (Option.some Jvm.ClassFile.FieldType.int)) 4 g [va_rf v0, .int v1] (fun K E h => w_X8_exchangeAt g v0 v1 K E h) := by
  refine CT_of (lv := [(0, va_rf v0), (1, .int v1)]) (by decide +kernel) (by simp [lg_sl, cat_rf, cat_int, cat_long]) (by simp [lv_args, cat_rf, cat_int, cat_long]) (fun h0 K E p e s m args below meth c H locs cells slots ls X hxt hmn hw hR hl => ?_)
  have hx := X.hx
  have hb := X.hb
  unfold w_X8_exchangeAt at hw
  refine r_aload_n X dX8_exchangeAt_0 rfl (lv_at hl 0 rfl) ?_
  refine lv_iconst (v := 0) hx hb dX8_exchangeAt_1 (by decide) ?_
  refine r_put X hR fp_X8_45 (Or.inl fn_X8_45) (nf_int _) dX8_exchangeAt_2 hw (fun H locs h hR hw => ?_)
  refine r_aload_n X dX8_exchangeAt_5 rfl (lv_at hl 0 rfl) ?_
  refine r_gR X hR fk_X8_316 dX8_exchangeAt_6 hw (fun x1 hw => ?_)
  refine r_ifnonnull (tgt := 18) X dX8_exchangeAt_9 (by decide) (fun c2 => ?_) (fun c2 => ?_)
  · have hw := hw.1 c2
    refine r_aload_n X dX8_exchangeAt_18 rfl (lv_at hl 0 rfl) ?_
    refine r_callV X hR (c_V (ci := 8) (q := (RX8, TX8, 32)) X hR hl.1 (c_X8_seeks l g v0) (lw_V q2087 q2089 qs94 q125 q2090) rfl rfl mh_X8_seeks rfl (by decide) (by decide) rfl (cat4 (Nat.le_of_ble_eq_true rfl)) dX8_exchangeAt_19 hw) (fun _ h H locs cells slots hR hw => ?_)
    refine lv_iload_n hx hb dX8_exchangeAt_22 rfl (lv_at hl 1 rfl) ?_
    refine lv_if_lt (tgt := 47) hx hb dX8_exchangeAt_23 (by decide) (fun c3 => ?_) (fun c3 => ?_)
    · have hw := hw.1 c3
      exact t_X8_exchangeAt_J47 X  hw hR (lv_sub hl [0] rfl)
    · have hw := hw.2 c3
      refine lv_iload_n hx hb dX8_exchangeAt_26 rfl (lv_at hl 1 rfl) ?_
      refine r_aload_n X dX8_exchangeAt_27 rfl (lv_at hl 0 rfl) ?_
      refine r_gI X hR fk_X8_408 dX8_exchangeAt_28 hw (fun x5 hw => ?_)
      refine lv_icmp_ge (tgt := 47) hx hb dX8_exchangeAt_31 (by decide) (fun c6 => ?_) (fun c6 => ?_)
      · have hw := hw.1 c6
        exact t_X8_exchangeAt_J47 X  hw hR (lv_sub hl [0] rfl)
      · have hw := hw.2 c6
        refine r_aload_n X dX8_exchangeAt_34 rfl (lv_at hl 0 rfl) ?_
        refine r_aload_n X dX8_exchangeAt_35 rfl (lv_at hl 0 rfl) ?_
        refine r_gR X hR fk_X8_33 dX8_exchangeAt_36 hw (fun x7 hw => ?_)
        refine lv_iload_n hx hb dX8_exchangeAt_39 rfl (lv_at hl 1 rfl) ?_
        refine r_iald X hR dX8_exchangeAt_40 hw (fun x8 hw => ?_)
        refine r_callI X hR (c_V (ci := 8) (q := (RX8, TX8, 32)) X hR hl.1 (c_X8_good l g v0 x8) (lw_V q1929 q1931 qs78 q125 q1932) rfl rfl mh_X8_good rfl (by decide) (by decide) rfl (cat4 (Nat.le_of_ble_eq_true rfl)) dX8_exchangeAt_41 hw) (fun x9 h H locs cells slots hR hw => ?_)
        refine lv_goto (tgt := 52) hx hb dX8_exchangeAt_44 (by decide) ?_
        exact r_iret X hR dX8_exchangeAt_52 hw
  · have hw := hw.2 c2
    refine r_aload_n X dX8_exchangeAt_12 rfl (lv_at hl 0 rfl) ?_
    refine lv_iconst (v := 1) hx hb dX8_exchangeAt_13 (by decide) ?_
    refine r_callI X hR (c_V (ci := 8) (q := (RX8, TX8, 32)) X hR hl.1 (c_X8_refused l g v0 1) (lw_V q1657 q1659 qs50 q125 q1660) rfl rfl mh_X8_refused rfl (by decide) (by decide) rfl (cat4 (Nat.le_of_ble_eq_true rfl)) dX8_exchangeAt_14 hw) (fun x10 h H locs cells slots hR hw => ?_)
    exact r_iret X hR dX8_exchangeAt_17 hw
theorem c_X8_isParty (l : Launch) (g : GT) (v0 : Option Nat) (v1 : Int32) : CT qI l yX8_isParty (ws_ yX8_isParty cX8_isParty 2 (Option.some Jvm.ClassFile.FieldType.boolean)) 2 g [va_rf v0, .int v1] (fun K E h => w_X8_isParty g v0 v1 K E h) := by
  refine CT_of (lv := [(0, va_rf v0), (1, .int v1)]) (by decide +kernel) (by simp [lg_sl, cat_rf, cat_int, cat_long]) (by simp [lv_args, cat_rf, cat_int, cat_long]) (fun h0 K E p e s m args below meth c H locs cells slots ls X hxt hmn hw hR hl => ?_)
  have hx := X.hx
  have hb := X.hb
  unfold w_X8_isParty at hw
  refine r_aload_n X dX8_isParty_0 rfl (lv_at hl 0 rfl) ?_
  refine r_gR X hR fk_X8_316 dX8_isParty_1 hw (fun x1 hw => ?_)
  refine r_ifnull (tgt := 30) X dX8_isParty_4 (by decide) (fun c2 => ?_) (fun c2 => ?_)
  · have hw := hw.1 c2
    refine lv_iconst (v := 0) hx hb dX8_isParty_30 (by decide) ?_
    exact r_zret X hR dX8_isParty_31 hw
  · have hw := hw.2 c2
    refine lv_iload_n hx hb dX8_isParty_7 rfl (lv_at hl 1 rfl) ?_
    refine lv_iconst (v := 1) hx hb dX8_isParty_8 (by decide) ?_
    refine lv_iconst (v := 1) hx hb dX8_isParty_9 (by decide) ?_
    refine r_aload_n X dX8_isParty_10 rfl (lv_at hl 0 rfl) ?_
    refine r_gR X hR fk_X8_316 dX8_isParty_11 hw (fun x3 hw => ?_)
    refine r_gI X hR fk_X8_191 dX8_isParty_14 hw (fun x4 hw => ?_)
    refine lv_ishl hx hb dX8_isParty_17 ?_
    refine lv_iconst (v := 1) hx hb dX8_isParty_18 (by decide) ?_
    refine lv_isub hx hb dX8_isParty_19 ?_
    refine r_callI X hR (c_S X hR hl.1 (c_X8_in l g v1 1 ((1 <<< (x4 &&& 31)) - 1)) (lw_S q1834 q1835 q125 q1836) mh_X8_in rfl (by decide) (by decide) rfl (cat4 (Nat.le_of_ble_eq_true rfl)) dX8_isParty_20 hw) (fun x5 h H locs cells slots hR hw => ?_)
    refine lv_if_eq (tgt := 30) hx hb dX8_isParty_23 (by decide) (fun c6 => ?_) (fun c6 => ?_)
    · have hw := hw.1 c6
      refine lv_iconst (v := 0) hx hb dX8_isParty_30 (by decide) ?_
      exact r_zret X hR dX8_isParty_31 hw
    · have hw := hw.2 c6
      refine lv_iconst (v := 1) hx hb dX8_isParty_26 (by decide) ?_
      refine lv_goto (tgt := 31) hx hb dX8_isParty_27 (by decide) ?_
      exact r_zret X hR dX8_isParty_31 hw
theorem c_X8_bit (l : Launch) (g : GT) (v0 : Int32) (v1 : Int32) : CT qI l yX8_bit (ws_ yX8_bit cX8_bit 2 (Option.some Jvm.ClassFile.FieldType.boolean)) 1 g [.int v0, .int v1] (fun K E h => w_X8_bit g v0 v1 K E h) := by
  refine CT_of (lv := [(0, .int v0), (1, .int v1)]) (by decide +kernel) (by simp [lg_sl, cat_rf, cat_int, cat_long]) (by simp [lv_args, cat_rf, cat_int, cat_long]) (fun h0 K E p e s m args below meth c H locs cells slots ls X hxt hmn hw hR hl => ?_)
  have hx := X.hx
  have hb := X.hb
  unfold w_X8_bit at hw
  refine lv_iload_n hx hb dX8_bit_0 rfl (lv_at hl 0 rfl) ?_
  refine lv_iload_n hx hb dX8_bit_1 rfl (lv_at hl 1 rfl) ?_
  refine lv_ishr hx hb dX8_bit_2 ?_
  refine lv_iconst (v := 1) hx hb dX8_bit_3 (by decide) ?_
  refine lv_iand hx hb dX8_bit_4 ?_
  refine lv_iconst (v := 1) hx hb dX8_bit_5 (by decide) ?_
  refine lv_icmp_ne (tgt := 13) hx hb dX8_bit_6 (by decide) (fun c1 => ?_) (fun c1 => ?_)
  · have hw := hw.1 c1
    refine lv_iconst (v := 0) hx hb dX8_bit_13 (by decide) ?_
    exact r_zret X hR dX8_bit_14 hw
  · have hw := hw.2 c1
    refine lv_iconst (v := 1) hx hb dX8_bit_9 (by decide) ?_
    refine lv_goto (tgt := 14) hx hb dX8_bit_10 (by decide) ?_
    exact r_zret X hR dX8_bit_14 hw
theorem c_X8_roomOf (l : Launch) (g : GT) (v0 : Option Nat) (v1 : Int32) (v2 : Int32) : CT qI l yX8_roomOf (ws_ yX8_roomOf cX8_roomOf 3 (Option.some Jvm.ClassFile.FieldType.int)) 2 g [va_rf v0, .int v1, .int v2] (fun K E h => w_X8_roomOf g v0 v1 v2 K E h) := by
  refine CT_of (lv := [(0, va_rf v0), (1, .int v1), (2, .int v2)]) (by decide +kernel) (by simp [lg_sl, cat_rf, cat_int, cat_long]) (by simp [lv_args, cat_rf, cat_int, cat_long]) (fun h0 K E p e s m args below meth c H locs cells slots ls X hxt hmn hw hR hl => ?_)
  have hx := X.hx
  have hb := X.hb
  unfold w_X8_roomOf at hw
  refine r_aload_n X dX8_roomOf_0 rfl (lv_at hl 0 rfl) ?_
  refine r_gR X hR fk_X8_17 dX8_roomOf_1 hw (fun x1 hw => ?_)
  refine lv_iconst (v := 0) hx hb dX8_roomOf_4 (by decide) ?_
  refine lv_iload_n hx hb dX8_roomOf_5 rfl (lv_at hl 1 rfl) ?_
  refine lv_iadd hx hb dX8_roomOf_6 ?_
  refine r_iald X hR dX8_roomOf_7 hw (fun x2 hw => ?_)
  refine lv_bipush (v := (-2)) hx hb dX8_roomOf_8 (by decide) ?_
  refine lv_icmp_eq (tgt := 42) hx hb dX8_roomOf_10 (by decide) (fun c3 => ?_) (fun c3 => ?_)
  · have hw := hw.1 c3
    refine lv_iconst (v := 0) hx hb dX8_roomOf_42 (by decide) ?_
    exact r_iret X hR dX8_roomOf_43 hw
  · have hw := hw.2 c3
    refine lv_iload_n hx hb dX8_roomOf_13 rfl (lv_at hl 2 rfl) ?_
    refine r_aload_n X dX8_roomOf_14 rfl (lv_at hl 0 rfl) ?_
    refine r_gR X hR fk_X8_17 dX8_roomOf_15 hw (fun x4 hw => ?_)
    refine lv_iconst (v := 0) hx hb dX8_roomOf_18 (by decide) ?_
    refine lv_iload_n hx hb dX8_roomOf_19 rfl (lv_at hl 1 rfl) ?_
    refine lv_iadd hx hb dX8_roomOf_20 ?_
    refine r_iald X hR dX8_roomOf_21 hw (fun x5 hw => ?_)
    refine r_callI X hR (c_S X hR hl.1 (c_X8_bit l g v2 x5) (lw_S q2135 q2136 q125 q2137) mh_X8_bit rfl (by decide) (by decide) rfl (cat4 (Nat.le_of_ble_eq_true rfl)) dX8_roomOf_22 hw) (fun x6 h H locs cells slots hR hw => ?_)
    refine lv_if_eq (tgt := 42) hx hb dX8_roomOf_25 (by decide) (fun c7 => ?_) (fun c7 => ?_)
    · have hw := hw.1 c7
      refine lv_iconst (v := 0) hx hb dX8_roomOf_42 (by decide) ?_
      exact r_iret X hR dX8_roomOf_43 hw
    · have hw := hw.2 c7
      refine r_aload_n X dX8_roomOf_28 rfl (lv_at hl 0 rfl) ?_
      refine r_gR X hR fk_X8_316 dX8_roomOf_29 hw (fun x8 hw => ?_)
      refine r_gR X hR fk_X8_275 dX8_roomOf_32 hw (fun x9 hw => ?_)
      refine lv_iload_n hx hb dX8_roomOf_35 rfl (lv_at hl 1 rfl) ?_
      refine r_iald X hR dX8_roomOf_36 hw (fun x10 hw => ?_)
      refine lv_iconst (v := 4) hx hb dX8_roomOf_37 (by decide) ?_
      refine lv_idiv hx hb dX8_roomOf_38 (by decide) ?_
      refine lv_goto (tgt := 43) hx hb dX8_roomOf_39 (by decide) ?_
      exact r_iret X hR dX8_roomOf_43 hw
