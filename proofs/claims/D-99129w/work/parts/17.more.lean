set_option maxRecDepth 100000
section Rows5
variable {p : Program} {l : Launch} {e : Env} {s : State} {m : MethodId} {args : Array Value} {below : List Frame} {meth : Method} {c : Code} {H : Heap} {locs : List Loc} {cells slots : Nat} {Q : State → Prop} {cc : ByteArray} {pc nL : Nat} {ls : Array Slot} {rest st0 : List Value} {g : GT} {h h0 : AH} {own : String} {ret : Option FieldType} {d : Nat}
theorem cpL_arr (cA : ClassId) (xs ys : List Int32) {sp dp n : Nat} (h1 : sp + n ≤ xs.length) (h2 : dp + n ≤ ys.length) : arrV cA ys.length (fun j => .int (va_cpy (fun j => xs.getD j 0) (fun j => ys.getD j 0) sp dp n j)) = vp_cell cA (arrP (.inl (cpL xs ys sp dp n))) := by
  have hlen : (cpL xs ys sp dp n).length = ys.length := by
    unfold cpL
    rw [List.length_append, List.length_append, List.length_take, List.length_take, List.length_drop, List.length_drop]
    omega
  show _ = arrV cA (cpL xs ys sp dp n).length (fun j => .int ((cpL xs ys sp dp n).getD j 0))
  rw [hlen]
  unfold arrV
  congr 1
  apply Array.ext
  · simp
  · intro j hj _
    have hj' : j < ys.length := by simpa using hj
    simp only [Array.getElem_ofFn, va_cpy]
    congr 1
    unfold cpL
    rw [List.getD_eq_getElem?_getD (l := _ ++ _)]
    by_cases c1 : j < dp
    · rw [if_neg (by omega), List.append_assoc, List.getElem?_append_left (by rw [List.length_take]; omega), List.getElem?_take_of_lt c1, List.getD_eq_getElem?_getD]
    · by_cases c2 : j < dp + n
      · rw [if_pos ⟨by omega, c2⟩, List.getElem?_append_left (by rw [List.length_append, List.length_take, List.length_take, List.length_drop]; omega), List.getElem?_append_right (by rw [List.length_take]; omega), List.length_take, List.getElem?_take_of_lt (by omega), List.getElem?_drop, List.getD_eq_getElem?_getD]
        congr 2
        congr 1
        omega
      · rw [if_neg (by omega), List.getElem?_append_right (by rw [List.length_append, List.length_take, List.length_take, List.length_drop]; omega), List.getElem?_drop, List.getD_eq_getElem?_getD]
        congr 2
        rw [List.length_append, List.length_take, List.length_take, List.length_drop]
        omega
theorem r_copy (X : Cx g h0 p s m args meth c own cc nL ret) (hls : ls.size = nL) (hR : HS g s h H locs) {index : Nat} {v w : Option Nat} {sp dp n : Int32} {K : AH → Prop} (hq1 : Cond.methodLink own index arraycopyName ∈ lw_all) (hq2 : Cond.native arraycopyName ∈ lw_all) (hq3 : Cond.static arraycopyName ∈ lw_all) (hq4 : Cond.initialized "java/lang/System" ∈ lw_all) (hd : 1 ≤ d) (hcat : (rest.map fun v => v.category).sum ≤ 8) (hdg : decode cc pc = .ok (.invokestatic index, 3)) (hw : cI g h v sp w dp n K)
    (kk : ∀ (H : Heap) (locs : List Loc) (h : AH), HS g s h H locs → K h → W p l e (RM d h0) s m args below meth c H locs cells slots Q (F0 m (pc + 3) ls rest)) : W p l e (RM d h0) s m args below meth c H locs cells slots Q (F0 m pc ls (.int n :: .int dp :: va_rf w :: .int sp :: va_rf v :: rest)) := by
  obtain ⟨a0, a, xs, ys, rfl, rfl, ha, hx, hy, h1, h2, h3, h4, h5, hk⟩ := hw
  have nn : ∀ z : Int32, ¬ z < 0 → z.toInt = (z.toNatClampNeg : Int) := by
    intro z hz
    have hz0 : (0 : Int) ≤ z.toInt := by
      have := Int32.not_lt.mp hz
      simpa using Int32.le_iff_toInt_le.mp this
    show z.toInt = ((z.toInt.toNat : Nat) : Int)
    omega
  have hnfw : nativeFrameWords "java/lang/System" "arraycopy" 5 ≤ 40 := by decide
  intro T hT Y
  have hc0 : H[a0]? = some (vp_cell (g.2.2.1 0) (xs.length, .inl (fun j => xs.getD j 0))) := hR.1.2.2 _ _ hx
  have hc1 : H[a]? = some (vp_cell (g.2.2.1 0) (ys.length, .inl (fun j => ys.getD j 0))) := hR.1.2.2 _ _ hy
  obtain ⟨-, k0, hk0, cm0, hkk0⟩ := (X.hK.2 0 _ (tyG_at g 0 (by decide))).1 xs.length (fun j => .int (xs.getD j 0))
  obtain ⟨-, k1, hk1, cm1, hkk1⟩ := (X.hK.2 0 _ (tyG_at g 0 (by decide))).1 ys.length (fun j => .int (ys.getD j 0))
  have hdg' : decode c.code pc = .ok (.invokestatic index, 3) := by rw [X.hb]; exact hdg
  obtain ⟨vm', X', step⟩ := Y.arraycopy X.hx X.hown (X.hts _ hq1) (X.hts _ hq2) (X.hts _ hq3) (X.hts _ hq4) (src := a0) (dst := a) (cs := vp_cell (g.2.2.1 0) (xs.length, .inl (fun j => xs.getD j 0))) (cd := vp_cell (g.2.2.1 0) (ys.length, .inl (fun j => ys.getD j 0))) (srcPos := sp) (destPos := dp) (n := n) (by rw [hT]; exact hc0) (by rw [hT]; exact hc1)
    (fun _ h => by cases h) (fun _ h => by cases h) (fun h => by cases h) (fun h => by cases h) hk0 hk1 hkk0 hkk1 (by simp [tyA, refKind]) h1 h2 h3
    (by rw [nn sp h1, nn n h3]; show ¬ _ > ((arrV _ xs.length (fun j => .int (xs.getD j 0))).slots.size : Int); rw [arrV_size]; omega)
    (by rw [nn dp h2, nn n h3]; show ¬ _ > ((arrV _ ys.length (fun j => .int (ys.getD j 0))).slots.size : Int); rw [arrV_size]; omega)
    (fun vm₁ _ i hi => by
      have e : (vp_cell (g.2.2.1 0) (xs.length, .inl (fun j => xs.getD j 0))).slots.getD (sp.toNatClampNeg + i) .null = .int (xs.getD (sp.toNatClampNeg + i) 0) := by
        show (arrV _ xs.length (fun j => .int (xs.getD j 0))).slots.getD _ _ = _
        rw [Array.getD_eq_getD_getElem?, arrV_read _ _ (by omega)]
        rfl
      refine ⟨?_, ?_⟩
      · rw [e]
        rfl
      · rw [e]
        exact trivial)
    (g := F0 m pc ls (.int n :: .int dp :: .ref a :: .int sp :: .ref a0 :: rest)) rfl (by rw [X.hml]; exact hls) (rest := rest) rfl hdg' hd (by show 2 * 0 + _ + _ ≤ 64 * d; omega)
  have e1 : copied (vp_cell (g.2.2.1 0) (xs.length, .inl (fun j => xs.getD j 0))) (vp_cell (g.2.2.1 0) (ys.length, .inl (fun j => ys.getD j 0))) sp dp n = vp_cell (g.2.2.1 0) (arrP (.inl (cpL xs ys sp.toNatClampNeg dp.toNatClampNeg n.toNatClampNeg))) :=
    (va_copied (fun z => .int z) (g.2.2.1 0) (g.2.2.1 0) (fun j => xs.getD j 0) (fun j => ys.getD j 0) h4).trans (cpL_arr _ xs ys h4 h5)
  rw [e1] at X' step
  have hl : a < H.size := (Array.getElem?_eq_some_iff.mp hc1).1
  generalize hnc : vp_cell (g.2.2.1 0) (arrP (.inl (cpL xs ys sp.toNatClampNeg dp.toNatClampNeg n.toNatClampNeg))) = nc at X' step
  have hheap : ((T.setVm vm').setCell a nc).heap = H.setIfInBounds a nc := by rw [← hT]; rfl
  have hlen : (cpL xs ys sp.toNatClampNeg dp.toNatClampNeg n.toNatClampNeg).length = ys.length := by
    unfold cpL
    rw [List.length_append, List.length_append, List.length_take, List.length_take, List.length_drop, List.length_drop]
    omega
  have hput := hR.putA (i := 0) (y := .inl (cpL xs ys sp.toNatClampNeg dp.toNatClampNeg n.toNatClampNeg)) (H1 := H.setIfInBounds a nc) ha hy (by rw [hnc]; simp [Array.getElem?_setIfInBounds, hl]) hlen (by simp) (fun q hq => by simp [Array.getElem?_setIfInBounds, Ne.symm hq])
  obtain ⟨t, a1, b1⟩ := kk _ _ _ ⟨hput.1, ⟨hput.2.1.1, hput.2.1.2.1, fun q hq => by
      rcases List.mem_append.mp hq with h | h
      · exact hR.2.1.2.2 q h
      · obtain ⟨z, -, hz⟩ := List.mem_map.mp h
        rw [← hz]
        exact ha⟩, hput.2.2⟩ hk _ hheap X'
  exact ⟨t, step t a1, b1⟩
/-! instanceof, checkcast -/
def iO (h : AH) (v : Option Nat) (yes no : List Nat) (K : Int32 → Prop) : Prop := (v = none ∧ K 0) ∨ (∃ ci ∈ yes, isO h v ci ∧ K 1) ∨ (∃ ci ∈ no, isO h v ci ∧ K 0)
def kO (h : AH) (v : Option Nat) (yes : List Nat) (P : Prop) : Prop := (v = none ∨ ∃ ci ∈ yes, isO h v ci) ∧ P
theorem r_inst (X : Cx g h0 p s m args meth c own cc nL ret) (hR : HS g s h H locs) {R : Room} {index : Nat} {v : Option Nat} {nm : String} {yes no : List Nat} {K : Int32 → Prop} (hl : Cond.classLink own index nm ∈ lw_all) (hyes : ∀ ci ∈ yes, AK nm ci) (hno : ∀ ci ∈ no, ∃ q : vw_C, clG[ci]? = some q ∧ (q.1, nm) ∈ ncl) (hdg : decode cc pc = .ok (.instanceof index, 3)) (hw : iO h v yes no K)
    (kk : ∀ x : Int32, K x → W p l e R s m args below meth c H locs cells slots Q (F0 m (pc + 3) ls (.int x :: rest))) : W p l e R s m args below meth c H locs cells slots Q (F0 m pc ls (va_rf v :: rest)) := by
  rcases hw with ⟨rfl, hw⟩ | ⟨ci, hci, ⟨a, fs, rfl, hc⟩, hw⟩ | ⟨ci, hci, ⟨a, fs, rfl, hc⟩, hw⟩
  · exact lv_instN X.hx X.hb hdg (kk 0 hw)
  · obtain ⟨q, hq, he⟩ := hyes ci hci
    have hr := rr_recv X hR hc hq
    rcases he with he | he
    · rw [he] at hr
      exact va_instE X.hx X.hb X.hown (X.hts _ hl) hr hdg (kk 1 hw)
    · exact va_instY X.hx X.hb X.hown (X.hts _ hl) (X.hN _ he rfl) hr hdg (kk 1 hw)
  · obtain ⟨q, hq, he⟩ := hno ci hci
    exact va_instNo X.hx X.hb X.hown (X.hts _ hl) (X.2.1.2.2.1 _ he) (rr_recv X hR hc hq) hdg (kk 0 hw)
theorem r_chk (X : Cx g h0 p s m args meth c own cc nL ret) (hR : HS g s h H locs) {R : Room} {index : Nat} {v : Option Nat} {nm : String} {yes : List Nat} {P : Prop} (hl : Cond.classLink own index nm ∈ lw_all) (hyes : ∀ ci ∈ yes, AK nm ci) (hdg : decode cc pc = .ok (.checkcast index, 3)) (hw : kO h v yes P)
    (kk : P → W p l e R s m args below meth c H locs cells slots Q (F0 m (pc + 3) ls (va_rf v :: rest))) : W p l e R s m args below meth c H locs cells slots Q (F0 m pc ls (va_rf v :: rest)) := by
  obtain ⟨h1, hP⟩ := hw
  rcases h1 with rfl | ⟨ci, hci, a, fs, rfl, hc⟩
  · exact lv_castN X.hx X.hb hdg (kk hP)
  · obtain ⟨q, hq, he⟩ := hyes ci hci
    have hr := rr_recv X hR hc hq
    rcases he with he | he
    · rw [he] at hr
      exact va_castE X.hx X.hb X.hown (X.hts _ hl) hr hdg (kk hP)
    · exact va_castY X.hx X.hb X.hown (X.hts _ hl) (X.hN _ he rfl) hr hdg (kk hP)
/-- a byte array is cast to what it is -/
def kB (h : AH) (v : Option Nat) (P : Prop) : Prop := (∃ (a : Nat) (x : AArr), v = some a ∧ h.1 a = some (.inl (1, x))) ∧ P
theorem r_chkB (X : Cx g h0 p s m args meth c own cc nL ret) (hR : HS g s h H locs) {R : Room} {index : Nat} {v : Option Nat} {P : Prop} (hl : Cond.classLink own index "[B" ∈ lw_all) (hdg : decode cc pc = .ok (.checkcast index, 3)) (hw : kB h v P)
    (kk : P → W p l e R s m args below meth c H locs cells slots Q (F0 m (pc + 3) ls (va_rf v :: rest))) : W p l e R s m args below meth c H locs cells slots Q (F0 m pc ls (va_rf v :: rest)) := by
  obtain ⟨⟨a, x, rfl, hc⟩, hP⟩ := hw
  exact va_castA X.hx X.hb X.hown (X.hts _ hl) (hR.P hc) 0 rfl (X.hK.2 1 _ (tyG_at g 1 (by decide))).2 hdg (kk hP)
end Rows5
