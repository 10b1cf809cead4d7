set_option maxRecDepth 100000
section Rows3
variable {p : Program} {l : Launch} {e : Env} {s : State} {m : MethodId} {args : Array Value} {below : List Frame} {meth : Method} {c : Code} {H : Heap} {locs : List Loc} {cells slots : Nat} {Q : State → Prop} {cc : ByteArray} {pc nL : Nat} {ls : Array Slot} {rest : List Value} {g : GT} {h h0 : AH} {own : String} {ret : Option FieldType} {d : Nat}
/-! new objects and arrays -/
def NK (own : String) (index ci N : Nat) (fs : List Value) : Prop := ∃ (C : String) (T : u_T) (ty : Nat → FieldType), clG[ci]? = some (C, T, N) ∧ (∀ w ∈ u_ws C T N, w ∈ lw_all) ∧ (∀ k, k < N → parseFieldDescriptor (T k).2.2.1 = some (ty k)) ∧ Cond.classLink own index C ∈ lw_all ∧ Cond.instantiable C N ∈ lw_all ∧ Cond.initialized C ∈ lw_all ∧ ∀ j, j < N → defaultValue (ty j) = vp_V fs j
theorem HS.new (hR : HS g s h H locs) {H1 : Heap} {e : AC} {cell : Cell} {n : Nat} (hc : H1[H.size]? = some cell) (hz : cell.slots.size = n) (hs : H1.size = H.size + 1) (ho : ∀ q, q < H.size → H1[q]? = H[q]?) (hat : va_at g.2.1 clG (H.size, acE g e) H1) (h1 : h.2.1 + 1 ≤ CL) (h2 : h.2.2 + n ≤ SL) : HS g s (newH g h e n) H1 locs :=
  ⟨hR.1.new hc hz hs ho hat, ⟨Nat.le_trans hR.2.1.1 (by omega), fun x y1 y2 => (ho x (Nat.lt_of_lt_of_le y1 hR.2.1.1)).trans (hR.2.1.2.1 x y1 y2), hR.2.1.2.2⟩, h1, h2⟩
theorem r_new (X : Cx g h0 p s m args meth c own cc nL ret) (hR : HS g s h H locs) {index ci N : Nat} {fs : List Value} {K : Option Nat → AH → Prop} (hN : NK own index ci N fs) (hdg : decode cc pc = .ok (.new index, 3)) (hw : nO g h ci N fs K)
    (kk : ∀ (H : Heap) (cells slots : Nat) (v : Option Nat) (h : AH), HS g s h H locs → K v h → W p l e (RM d h0) s m args below meth c H locs cells slots Q (F0 m (pc + 3) ls (va_rf v :: rest))) : W p l e (RM d h0) s m args below meth c H locs cells slots Q (F0 m pc ls rest) := by
  obtain ⟨C, T, ty, g1, hin, hty, hcl, hins, hini, hfs⟩ := hN
  obtain ⟨b1, b2, b3⟩ := hw
  refine W_tight X.2.2.1 hR fun hmono => ?_
  have hKn := X.hK.1 ci _ g1
  obtain ⟨hsz, hsz2⟩ := hmono
  refine W.newcK X.hx X.hb X.hown (X.hts _ hcl) (X.hts _ hins) (X.hts _ hini) rfl hdg (by show _ ≤ CL - h0.2.1; omega) (by show _ ≤ SL - h0.2.2; omega) hKn.2.1 rfl fun H1 kC hkC e1 z1 o1 => ?_
  have hbl : (blank (g.2.1.1 ci) kC).slots.size = N := by
    obtain ⟨c', k', f1, f2, -, -, -, f3⟩ := Cond.instantiable_spec (X.hts _ hins)
    cases f1.symm.trans hKn.2.1
    cases f2.symm.trans hkC
    show (kC.instanceTypes.map defaultValue).size = N
    rw [Array.size_map, f3]
  have hH : H.size = g.1 + h.2.1 := hR.1.1
  have := kk H1 (h.2.1 - h0.2.1 + 1) (h.2.2 - h0.2.2 + N) (some (g.1 + h.2.1)) _ (hR.new (e := .inr (ci, fs)) e1 hbl z1 o1 ⟨_, g1, (u_born ty X.hts hin hKn hkC e1 hty).to hfs⟩ b1 b2) b3
  rw [← hH] at this
  exact this
theorem mkA_I (g : GT) (t n : Nat) (ht : t < 3) : vp_cell (g.2.2.1 t) (arrP (mkA t n)) = arrV (g.2.2.1 t) n (fun _ => .int 0) := by
  have e : mkA t n = .inl (List.replicate n 0) := by unfold mkA; rw [if_neg (by omega), if_pos ht]
  rw [e]
  show arrV _ (List.replicate n (0 : Int32)).length (fun j => .int ((List.replicate n (0 : Int32)).getD j 0)) = _
  rw [List.length_replicate]
  unfold arrV
  congr 1
  apply Array.ext
  · simp
  · intro j hj _
    have hj' : j < n := by simpa using hj
    simp only [Array.getElem_ofFn]
    rw [List.getD_eq_getElem?_getD, List.getElem?_replicate, if_pos hj']
    rfl
theorem mkA_J (g : GT) (n : Nat) : vp_cell (g.2.2.1 3) (arrP (mkA 3 n)) = arrV (g.2.2.1 3) n (fun _ => .long 0) := by
  show arrV _ (List.replicate n (0 : Int64)).length (fun j => .long ((List.replicate n (0 : Int64)).getD j 0)) = _
  rw [List.length_replicate]
  unfold arrV
  congr 1
  apply Array.ext
  · simp
  · intro j hj _
    have hj' : j < n := by simpa using hj
    simp only [Array.getElem_ofFn]
    rw [List.getD_eq_getElem?_getD, List.getElem?_replicate, if_pos hj']
    rfl
theorem mkA_R (g : GT) (t n : Nat) (ht : 4 ≤ t) : vp_cell (g.2.2.1 t) (arrP (mkA t n)) = arrV (g.2.2.1 t) n (fun _ => .null) := by
  have e : mkA t n = .inr (.inr (List.replicate n none)) := by unfold mkA; rw [if_neg (by omega), if_neg (by omega)]
  rw [e]
  show arrV _ (List.replicate n (none : Option Nat)).length (fun j => va_rf ((List.replicate n (none : Option Nat)).getD j none)) = _
  rw [List.length_replicate]
  unfold arrV
  congr 1
  apply Array.ext
  · simp
  · intro j hj _
    have hj' : j < n := by simpa using hj
    simp only [Array.getElem_ofFn]
    rw [List.getD_eq_getElem?_getD, List.getElem?_replicate, if_pos hj']
    rfl
theorem r_newa (X : Cx g h0 p s m args meth c own cc nL ret) (hR : HS g s h H locs) {atype : ArrayType} {t : Nat} {n : Int32} {K : Option Nat → AH → Prop} (harr : Cond.arrayClass (newarray.typeOf atype) ∈ lw_all) (ht : t < 4) (hty : newarray.typeOf atype = tyA t) (hdg : decode cc pc = .ok (.newarray atype, 2)) (hw : nA g h t n K)
    (kk : ∀ (H : Heap) (cells slots : Nat) (v : Option Nat) (h : AH), HS g s h H locs → K v h → W p l e (RM d h0) s m args below meth c H locs cells slots Q (F0 m (pc + 2) ls (va_rf v :: rest))) : W p l e (RM d h0) s m args below meth c H locs cells slots Q (F0 m pc ls (.int n :: rest)) := by
  obtain ⟨b0, b00, b1, b2, b3⟩ := hw
  refine W_tight X.2.2.1 hR fun hmono => ?_
  obtain ⟨hsz, hsz2⟩ := hmono
  have hbytes : n.toNatClampNeg * componentBytes (newarray.typeOf atype) ≤ 536870912 := by
    have : componentBytes (newarray.typeOf atype) ≤ 8 := by
      rw [hty]
      have : t = 0 ∨ t = 1 ∨ t = 2 ∨ t = 3 := by omega
      rcases this with rfl | rfl | rfl | rfl <;> decide
    calc _ ≤ n.toNatClampNeg * 8 := Nat.mul_le_mul_left _ this
      _ ≤ 60000 * 8 := Nat.mul_le_mul_right _ b00
      _ ≤ _ := by decide
  refine va_newaK X.hx X.hb (X.hts _ harr) rfl hdg rfl b0 rfl hbytes (by show _ ≤ CL - h0.2.1; omega) (by show _ ≤ SL - h0.2.2; omega) rfl fun H1 cA e1 z1 o1 hAr hNm => ?_
  have hH : H.size = g.1 + h.2.1 := hR.1.1
  have hK := (X.hK.2 t _ (tyG_at g t (by omega))).2
  have hcA : cA = g.2.2.1 t := by
    rw [hty] at hNm
    have : t = 0 ∨ t = 1 ∨ t = 2 ∨ t = 3 := by omega
    rcases this with rfl | rfl | rfl | rfl <;> exact Option.some.inj (hNm.symm.trans hK)
  subst hcA
  have hcell : vp_cell (g.2.2.1 t) (arrP (mkA t n.toNatClampNeg)) = arrV (g.2.2.1 t) n.toNatClampNeg (fun _ => defaultValue (newarray.typeOf atype)) := by
    rw [hty]
    have : t = 0 ∨ t = 1 ∨ t = 2 ∨ t = 3 := by omega
    rcases this with rfl | rfl | rfl | rfl
    · exact mkA_I g 0 _ (by decide)
    · exact mkA_I g 1 _ (by decide)
    · exact mkA_I g 2 _ (by decide)
    · exact mkA_J g _
  have := kk H1 (h.2.1 - h0.2.1 + 1) (h.2.2 - h0.2.2 + n.toNatClampNeg) (some (g.1 + h.2.1)) _ (hR.new (e := .inl (t, mkA t n.toNatClampNeg)) e1 (arrV_size _ _ _) z1 o1 (by show H1[H.size]? = some (vp_cell _ (arrP (mkA t n.toNatClampNeg))); rw [hcell]; exact e1) b1 b2) b3
  rw [← hH] at this
  exact this
theorem r_anew (X : Cx g h0 p s m args meth c own cc nL ret) (hR : HS g s h H locs) {index t : Nat} {C : String} {n : Int32} {K : Option Nat → AH → Prop} (hcl : Cond.classLink own index C ∈ lw_all) (ht : 4 ≤ t) (ht9 : t < 9) (hover : Cond.arrayOver (.object C) ∈ lw_tbl) (hty : tyA t = .object C) (hdg : decode cc pc = .ok (.anewarray index, 3)) (hw : nA g h t n K)
    (kk : ∀ (H : Heap) (cells slots : Nat) (v : Option Nat) (h : AH), HS g s h H locs → K v h → W p l e (RM d h0) s m args below meth c H locs cells slots Q (F0 m (pc + 3) ls (va_rf v :: rest))) : W p l e (RM d h0) s m args below meth c H locs cells slots Q (F0 m pc ls (.int n :: rest)) := by
  obtain ⟨b0, b00, b1, b2, b3⟩ := hw
  refine W_tight X.2.2.1 hR fun hmono => ?_
  obtain ⟨hsz, hsz2⟩ := hmono
  refine W.anew X.hx X.hb X.hown (X.hts _ hcl) (va_AO.use (X.hN _ hover rfl)) rfl hdg rfl b0 (by omega) (by show _ ≤ CL - h0.2.1; omega) (by show _ ≤ SL - h0.2.2; omega) fun cA kA comp f1 f2 f3 f4 => ?_
  generalize hH1 : H.push ({ cls := cA, slots := Array.replicate n.toNatClampNeg .null, vm := .none } : Cell) = H1
  have z1 : H1.size = H.size + 1 := by rw [← hH1, Array.size_push]
  have e1 : H1[H.size]? = some (arrV cA n.toNatClampNeg (fun _ => .null)) := by rw [← hH1, Array.getElem?_push_size, ← arrV_new]
  have o1 : ∀ q, q < H.size → H1[q]? = H[q]? := fun q hq => by rw [← hH1, Array.getElem?_push, if_neg (Nat.ne_of_lt hq)]
  have hH : H.size = g.1 + h.2.1 := hR.1.1
  have hK := (X.hK.2 t _ (tyG_at g t (by omega))).2
  have hcA : cA = g.2.2.1 t := by
    rw [hty] at hK
    obtain ⟨kA, comp, k1, k2, k3, k4⟩ := hK
    exact Option.some.inj (f1.symm.trans k4)
  subst hcA
  have hcell := mkA_R g t n.toNatClampNeg ht
  have := kk H1 (h.2.1 - h0.2.1 + 1) (h.2.2 - h0.2.2 + n.toNatClampNeg) (some (g.1 + h.2.1)) _ (hR.new (e := .inl (t, mkA t n.toNatClampNeg)) e1 (arrV_size _ _ _) z1 o1 (by show H1[H.size]? = some (vp_cell _ (arrP (mkA t n.toNatClampNeg))); rw [hcell]; exact e1) b1 b2) b3
  rw [← hH] at this
  exact this
/-! references in locals -/
theorem cat_rf (v : Option Nat) : (va_rf v).category = 1 := by cases v <;> rfl
theorem r_aload_n (X : Cx g h0 p s m args meth c own cc nL ret) {R : Room} {k : Fin 4} {i : Nat} {v : Option Nat} (hdg : decode cc pc = .ok (.aload_n k, 1)) (hi : (k : Nat) = i) (hl : ls[i]? = some (.val (va_rf v)))
    (kk : W p l e R s m args below meth c H locs cells slots Q (F0 m (pc + 1) ls (va_rf v :: rest))) : W p l e R s m args below meth c H locs cells slots Q (F0 m pc ls rest) := by
  cases v with
  | none => exact lv_aload_nN X.hx X.hb hdg hi hl kk
  | some a => exact lv_aload_n X.hx X.hb hdg hi hl kk
theorem r_aload (X : Cx g h0 p s m args meth c own cc nL ret) {R : Room} {i : Nat} {v : Option Nat} (hdg : decode cc pc = .ok (.aload i, 2)) (hl : ls[i]? = some (.val (va_rf v)))
    (kk : W p l e R s m args below meth c H locs cells slots Q (F0 m (pc + 2) ls (va_rf v :: rest))) : W p l e R s m args below meth c H locs cells slots Q (F0 m pc ls rest) := by
  cases v with
  | none => exact lv_aloadN X.hx X.hb hdg hl kk
  | some a => exact lv_aload X.hx X.hb hdg hl kk
theorem r_astore_n (X : Cx g h0 p s m args meth c own cc nL ret) {R : Room} {k : Fin 4} {i : Nat} {v : Option Nat} {lv lv' : List (Nat × Value)} (hdg : decode cc pc = .ok (.astore_n k, 1)) (hi : (k : Nat) = i) (hh : lv_has ls nL lv) (hn : i < nL) (hl : (i, va_rf v) :: lv.filter (fun q => !(q.1 == i) && !(q.1 + 1 == i && q.2.category == 2)) = lv')
    (kk : ∀ ls : Array Slot, lv_has ls nL lv' → W p l e R s m args below meth c H locs cells slots Q (F0 m (pc + 1) ls rest)) : W p l e R s m args below meth c H locs cells slots Q (F0 m pc ls (va_rf v :: rest)) := by
  cases v with
  | none => exact lv_astore_nN X.hx X.hb hdg hi hh hn hl kk
  | some a => exact lv_astore_n X.hx X.hb hdg hi hh hn hl kk
theorem r_astore (X : Cx g h0 p s m args meth c own cc nL ret) {R : Room} {i : Nat} {v : Option Nat} {lv lv' : List (Nat × Value)} (hdg : decode cc pc = .ok (.astore i, 2)) (hh : lv_has ls nL lv) (hn : i < nL) (hl : (i, va_rf v) :: lv.filter (fun q => !(q.1 == i) && !(q.1 + 1 == i && q.2.category == 2)) = lv')
    (kk : ∀ ls : Array Slot, lv_has ls nL lv' → W p l e R s m args below meth c H locs cells slots Q (F0 m (pc + 2) ls rest)) : W p l e R s m args below meth c H locs cells slots Q (F0 m pc ls (va_rf v :: rest)) := by
  cases v with
  | none => exact lv_astoreN X.hx X.hb hdg hh hn hl kk
  | some a => exact lv_astore X.hx X.hb hdg hh hn hl kk
theorem r_ifnull (X : Cx g h0 p s m args meth c own cc nL ret) {R : Room} {v : Option Nat} {off : Int} {tgt : Nat} (hdg : decode cc pc = .ok (.ifnull off, 3)) (ht : (pc : Int) + off = (tgt : Int))
    (kt : v = none → W p l e R s m args below meth c H locs cells slots Q (F0 m tgt ls rest)) (kf : ¬ v = none → W p l e R s m args below meth c H locs cells slots Q (F0 m (pc + 3) ls rest)) : W p l e R s m args below meth c H locs cells slots Q (F0 m pc ls (va_rf v :: rest)) := by
  cases v with
  | none => exact lv_ifnullN X.hx X.hb hdg ht (kt rfl)
  | some a => exact lv_ifnull X.hx X.hb hdg (kf (fun q => by cases q))
theorem r_ifnonnull (X : Cx g h0 p s m args meth c own cc nL ret) {R : Room} {v : Option Nat} {off : Int} {tgt : Nat} (hdg : decode cc pc = .ok (.ifnonnull off, 3)) (ht : (pc : Int) + off = (tgt : Int))
    (kt : ¬ v = none → W p l e R s m args below meth c H locs cells slots Q (F0 m tgt ls rest)) (kf : v = none → W p l e R s m args below meth c H locs cells slots Q (F0 m (pc + 3) ls rest)) : W p l e R s m args below meth c H locs cells slots Q (F0 m pc ls (va_rf v :: rest)) := by
  cases v with
  | none => exact lv_ifnonnullN X.hx X.hb hdg (kf rfl)
  | some a => exact lv_ifnonnull X.hx X.hb hdg ht (kt (fun q => by cases q))
theorem r_null (X : Cx g h0 p s m args meth c own cc nL ret) {R : Room} (hdg : decode cc pc = .ok (.aconst_null, 1)) (k : W p l e R s m args below meth c H locs cells slots Q (F0 m (pc + 1) ls (va_rf none :: rest))) : W p l e R s m args below meth c H locs cells slots Q (F0 m pc ls rest) := lv_null X.hx X.hb hdg k
/-! text constants, statics -/
theorem r_ldcS (X : Cx g h0 p s m args meth c own cc nL ret) {R : Room} {index k : Nat} {tx : String} (hs : (own, index, tx, k) ∈ strl) (hdg : decode cc pc = .ok (.ldc index, 2))
    (kk : W p l e R s m args below meth c H locs cells slots Q (F0 m (pc + 2) ls (va_rf (some (g.2.2.2.1 k)) :: rest))) : W p l e R s m args below meth c H locs cells slots Q (F0 m pc ls rest) :=
  va_ldcS X.hx X.hb X.hown (X.2.1.2.2.2.1 _ hs) hdg kk
theorem r_ldcWS (X : Cx g h0 p s m args meth c own cc nL ret) {R : Room} {index kx : Nat} {tx : String} (hs : (own, index, tx, kx) ∈ strl) (hdg : decode cc pc = .ok (.ldc_w index, 3))
    (kk : W p l e R s m args below meth c H locs cells slots Q (F0 m (pc + 3) ls (va_rf (some (g.2.2.2.1 kx)) :: rest))) : W p l e R s m args below meth c H locs cells slots Q (F0 m pc ls rest) := by
  have hZ : vk_R own index tx (g.2.2.2.1 kx) s := X.2.1.2.2.2.1 _ hs
  intro T hT Y
  obtain ⟨t, a1, b1⟩ := kk T hT Y
  refine ⟨t, ?_, b1⟩
  obtain ⟨k, cf, i, a', hk, hcf, hcp, -, hr, hev'⟩ := Cond.stringRef_spec X.hown hZ.1
  cases hZ.2.symm.trans hev'
  obtain ⟨k', hk', he⟩ := Y.warmed.alike.2.2 _ _ hk
  have hr' : k'.resolved[index]? = some (some (.string (g.2.2.2.1 kx))) := by
    rcases Y.warmed.entry hk hk' index with h | ⟨h, -⟩
    · rw [h]; exact hr
    · rw [hr] at h; cases h
  have hdg' : decode c.code pc = .ok (.ldc_w index, 3) := by rw [X.hb]; exact hdg
  have hx := X.hx
  jvm_step Y.here [hx, hdg', ldc_w.wp_string (e := e) (s := T) (f := F0 m pc ls rest) Y.here.top hk' (by rw [he]; exact hcf) hcp hr']
  exact a1
theorem r_gets (X : Cx g h0 p s m args meth c own cc nL ret) (hR : HS g s h H locs) {R : Room} {index : Nat} {C n d : String} {v : Value} (hs : (C, n, d, v) ∈ stal g) (hl : Cond.fieldLink own index C n d ∈ lw_all) (hdg : decode cc pc = .ok (.getstatic index, 3))
    (kk : W p l e R s m args below meth c H locs cells slots Q (F0 m (pc + 3) ls (v :: rest))) : W p l e R s m args below meth c H locs cells slots Q (F0 m pc ls rest) :=
  va_gets X.hx X.hb (X.2.1.2.2.2.2 _ hs) hR.2.1 X.hown (X.hts _ hl) (fun _ q => q) hdg kk
theorem r_objInit (X : Cx g h0 p s m args meth c own cc nL ret) (hls : ls.size = nL) {index : Nat} {v : Option Nat} (hv : ¬ v = none) (hq1 : Cond.methodLink own index Lib.objectInit ∈ lw_all) (hq2 : Cond.instanceMethod Lib.objectInit ∈ lw_all) (hq3 : Cond.code Lib.objectInit ⟨#[0xb1]⟩ 1 none ∈ lw_all) (hd : 1 ≤ d) (hcat : (rest.map fun v => v.category).sum ≤ 8) (hdg : decode cc pc = .ok (.invokespecial index, 3))
    (kk : W p l e (RM d h0) s m args below meth c H locs cells slots Q (F0 m (pc + 3) ls rest)) : W p l e (RM d h0) s m args below meth c H locs cells slots Q (F0 m pc ls (va_rf v :: rest)) := by
  cases v with
  | none => exact absurd rfl hv
  | some a => exact W.objInit X.hx X.hb X.hown (X.hts _ hq1) (X.hts _ hq2) (X.hts _ hq3) rfl (by rw [X.hml]; exact hls) rfl hdg hd (by show 2 * 0 + _ + 12 ≤ 64 * d; omega) kk
end Rows3
