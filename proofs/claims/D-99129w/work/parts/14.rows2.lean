set_option maxRecDepth 100000
section Rows2
variable {p : Program} {l : Launch} {e : Env} {R : Room} {s : State} {m : MethodId} {args : Array Value} {below : List Frame} {meth : Method} {c : Code} {H : Heap} {locs : List Loc} {cells slots : Nat} {Q : State → Prop} {cc : ByteArray} {pc nL : Nat} {ls : Array Slot} {rest : List Value} {g : GT} {h h0 : AH} {own : String} {ret : Option FieldType} {d : Nat}
/-! arrays -/
theorem HS.P (hR : HS g s h H locs) {a : Nat} {e : AC} (hc : h.1 a = some e) : va_P g.2.1 clG [(a, acE g e)] H := by
  intro j q hq
  match j, hq with
  | 0, hq => cases hq; exact hR.1.2.2 a _ hc
theorem r_iald (X : Cx g h0 p s m args meth c own cc nL ret) (hR : HS g s h H locs) {v : Option Nat} {i : Int32} {K : Int32 → Prop} (hdg : decode cc pc = .ok (.iaload, 1)) (hw : aI h v 0 i K)
    (kk : ∀ x : Int32, K x → W p l e R s m args below meth c H locs cells slots Q (F0 m (pc + 1) ls (.int x :: rest))) : W p l e R s m args below meth c H locs cells slots Q (F0 m pc ls (.int i :: va_rf v :: rest)) := by
  obtain ⟨a, xs, rfl, h1, h2, h3⟩ := hw
  exact va_iald X.hx X.hb X.hK (hR.P h1) 0 0 rfl rfl h2 hdg (kk _ h3)
theorem r_bald (X : Cx g h0 p s m args meth c own cc nL ret) (hR : HS g s h H locs) {v : Option Nat} {i : Int32} {K : Int32 → Prop} (hdg : decode cc pc = .ok (.baload, 1)) (hw : aI h v 1 i K)
    (kk : ∀ x : Int32, K x → W p l e R s m args below meth c H locs cells slots Q (F0 m (pc + 1) ls (.int x :: rest))) : W p l e R s m args below meth c H locs cells slots Q (F0 m pc ls (.int i :: va_rf v :: rest)) := by
  obtain ⟨a, xs, rfl, h1, h2, h3⟩ := hw
  exact va_bald X.hx X.hb X.hK (hR.P h1) 0 1 rfl rfl h2 hdg (kk _ h3)
theorem r_cald (X : Cx g h0 p s m args meth c own cc nL ret) (hR : HS g s h H locs) {v : Option Nat} {i : Int32} {K : Int32 → Prop} (hdg : decode cc pc = .ok (.caload, 1)) (hw : aI h v 2 i K)
    (kk : ∀ x : Int32, K x → W p l e R s m args below meth c H locs cells slots Q (F0 m (pc + 1) ls (.int x :: rest))) : W p l e R s m args below meth c H locs cells slots Q (F0 m pc ls (.int i :: va_rf v :: rest)) := by
  obtain ⟨a, xs, rfl, h1, h2, h3⟩ := hw
  exact va_cald X.hx X.hb X.hK (hR.P h1) 0 2 rfl rfl h2 hdg (kk _ h3)
theorem r_lald (X : Cx g h0 p s m args meth c own cc nL ret) (hR : HS g s h H locs) {v : Option Nat} {i : Int32} {K : Int64 → Prop} (hdg : decode cc pc = .ok (.laload, 1)) (hw : aJ h v 3 i K)
    (kk : ∀ x : Int64, K x → W p l e R s m args below meth c H locs cells slots Q (F0 m (pc + 1) ls (.long x :: rest))) : W p l e R s m args below meth c H locs cells slots Q (F0 m pc ls (.int i :: va_rf v :: rest)) := by
  obtain ⟨a, xs, rfl, h1, h2, h3⟩ := hw
  exact va_lald X.hx X.hb X.hK (hR.P h1) 0 3 rfl rfl h2 hdg (kk _ h3)
theorem tyG_obj (g : GT) (t : Nat) (h1 : 4 ≤ t) (h2 : t < 9) : ∃ C : String, tyA t = .object C ∧ (tysG g)[t]? = some (g.2.2.1 t, .object C) := by
  have : t = 4 ∨ t = 5 ∨ t = 6 ∨ t = 7 ∨ t = 8 := by omega
  rcases this with rfl | rfl | rfl | rfl | rfl <;> exact ⟨_, rfl, rfl⟩
theorem tyG_at (g : GT) (t : Nat) (h2 : t < 9) : (tysG g)[t]? = some (g.2.2.1 t, tyA t) := by
  have : t = 0 ∨ t = 1 ∨ t = 2 ∨ t = 3 ∨ t = 4 ∨ t = 5 ∨ t = 6 ∨ t = 7 ∨ t = 8 := by omega
  rcases this with rfl | rfl | rfl | rfl | rfl | rfl | rfl | rfl | rfl <;> rfl
theorem r_aald (X : Cx g h0 p s m args meth c own cc nL ret) (hR : HS g s h H locs) {v : Option Nat} {t : Nat} {i : Int32} {K : Option Nat → Prop} (h4 : 4 ≤ t) (h9 : t < 9) (hdg : decode cc pc = .ok (.aaload, 1)) (hw : aR h v t i K)
    (kk : ∀ x : Option Nat, K x → W p l e R s m args below meth c H locs cells slots Q (F0 m (pc + 1) ls (va_rf x :: rest))) : W p l e R s m args below meth c H locs cells slots Q (F0 m pc ls (.int i :: va_rf v :: rest)) := by
  obtain ⟨a, xs, rfl, h1, h2, h3⟩ := hw
  obtain ⟨C, -, hC⟩ := tyG_obj g t h4 h9
  exact va_aldq X.hx X.hb X.hK (hR.P h1) 0 t rfl hC h2 hdg (kk _ h3)
theorem set_arrI (cA : ClassId) (xs : List Int32) (k : Nat) (x : Int32) : (arrV cA xs.length (fun j => .int (xs.getD j 0))).setSlot k (.int x) = vp_cell cA (arrP (.inl (xs.set k x))) := by
  show _ = arrV cA (xs.set k x).length (fun j => .int ((xs.set k x).getD j 0))
  rw [arrV_store, List.length_set]
  unfold arrV
  congr 1
  apply Array.ext
  · simp
  · intro j hj _
    simp only [Array.getElem_ofFn, updV]
    have hj' : j < xs.length := by simpa using hj
    by_cases e : j = k
    · subst e
      rw [if_pos rfl, List.getD_eq_getElem?_getD, List.getElem?_set_self hj']
      rfl
    · rw [if_neg e, List.getD_eq_getElem?_getD, List.getD_eq_getElem?_getD, List.getElem?_set_ne (Ne.symm e)]
theorem set_arrJ (cA : ClassId) (xs : List Int64) (k : Nat) (x : Int64) : (arrV cA xs.length (fun j => .long (xs.getD j 0))).setSlot k (.long x) = vp_cell cA (arrP (.inr (.inl (xs.set k x)))) := by
  show _ = arrV cA (xs.set k x).length (fun j => .long ((xs.set k x).getD j 0))
  rw [arrV_store, List.length_set]
  unfold arrV
  congr 1
  apply Array.ext
  · simp
  · intro j hj _
    simp only [Array.getElem_ofFn, updV]
    have hj' : j < xs.length := by simpa using hj
    by_cases e : j = k
    · subst e
      rw [if_pos rfl, List.getD_eq_getElem?_getD, List.getElem?_set_self hj']
      rfl
    · rw [if_neg e, List.getD_eq_getElem?_getD, List.getD_eq_getElem?_getD, List.getElem?_set_ne (Ne.symm e)]
theorem set_arrR (cA : ClassId) (xs : List (Option Nat)) (k : Nat) (x : Option Nat) : (arrV cA xs.length (fun j => va_rf (xs.getD j none))).setSlot k (va_rf x) = vp_cell cA (arrP (.inr (.inr (xs.set k x)))) := by
  show _ = arrV cA (xs.set k x).length (fun j => va_rf ((xs.set k x).getD j none))
  rw [arrV_store, List.length_set]
  unfold arrV
  congr 1
  apply Array.ext
  · simp
  · intro j hj _
    simp only [Array.getElem_ofFn, updV]
    have hj' : j < xs.length := by simpa using hj
    by_cases e : j = k
    · subst e
      rw [if_pos rfl, List.getD_eq_getElem?_getD, List.getElem?_set_self hj']
      rfl
    · rw [if_neg e, List.getD_eq_getElem?_getD, List.getD_eq_getElem?_getD, List.getElem?_set_ne (Ne.symm e)]
theorem HS.putA (hR : HS g s h H locs) {H1 : Heap} {a i t : Nat} {x y : AArr} (ha : g.1 ≤ a) (hc : h.1 a = some (.inl (t, x))) (hc1 : H1[a]? = some (vp_cell (g.2.2.1 t) (arrP y))) (hz : (arrP y).1 = (arrP x).1) (hs : H1.size = H.size) (ho : ∀ q, q ≠ a → H1[q]? = H[q]?) : HS g s (updH h a (.inl (t, y))) H1 (locs ++ [⟨a, i⟩]) := by
  have h1 : H[a]? = some (vp_cell (g.2.2.1 t) (arrP x)) := hR.1.2.2 a _ hc
  have hsz : ∀ (cA : ClassId) (z : vp_A), (vp_cell cA z).slots.size = z.1 := by
    intro cA z
    obtain ⟨n, z⟩ := z
    rcases z with f | f | f | f | f <;> exact arrV_size _ _ _
  exact hR.put ha h1 hc1 (by rw [hsz, hsz, hz]) hs ho hc1
theorem r_iast (X : Cx g h0 p s m args meth c own cc nL ret) (hR : HS g s h H locs) {v : Option Nat} {i x : Int32} {K : AH → Prop} (hdg : decode cc pc = .ok (.iastore, 1)) (hw : sI g h v 0 i x K)
    (kk : ∀ (H : Heap) (locs : List Loc) (h : AH), HS g s h H locs → K h → W p l e R s m args below meth c H locs cells slots Q (F0 m (pc + 1) ls rest)) : W p l e R s m args below meth c H locs cells slots Q (F0 m pc ls (.int x :: .int i :: va_rf v :: rest)) := by
  obtain ⟨a, xs, rfl, ha, h1, h2, h3⟩ := hw
  refine W.iast X.hx X.hb (hR.1.2.2 a _ h1) ((X.hK.2 0 _ (tyG_at g 0 (by decide))).1 xs.length (fun j => .int (xs.getD j 0))) (fun q => by cases q) (by show ¬ (i < 0 ∨ (arrV _ _ _).slots.size ≤ _); rw [arrV_size]; exact h2) rfl rfl hdg fun H1 e z oq => ?_
  exact kk H1 _ _ (hR.putA ha h1 (e.trans (congrArg some (set_arrI _ _ _ _))) (by show (xs.set _ _).length = xs.length; simp) z oq) h3
theorem r_bast (X : Cx g h0 p s m args meth c own cc nL ret) (hR : HS g s h H locs) {v : Option Nat} {i x : Int32} {K : AH → Prop} (hdg : decode cc pc = .ok (.bastore, 1)) (hw : sI g h v 1 i (vp_nar .byte x) K)
    (kk : ∀ (H : Heap) (locs : List Loc) (h : AH), HS g s h H locs → K h → W p l e R s m args below meth c H locs cells slots Q (F0 m (pc + 1) ls rest)) : W p l e R s m args below meth c H locs cells slots Q (F0 m pc ls (.int x :: .int i :: va_rf v :: rest)) := by
  obtain ⟨a, xs, rfl, ha, h1, h2, h3⟩ := hw
  refine W.bast X.hx X.hb (hR.1.2.2 a _ h1) ((X.hK.2 1 _ (tyG_at g 1 (by decide))).1 xs.length (fun j => .int (xs.getD j 0))) (fun q => by cases q) (by show ¬ (i < 0 ∨ (arrV _ _ _).slots.size ≤ _); rw [arrV_size]; exact h2) rfl rfl hdg fun H1 e z oq => ?_
  exact kk H1 _ _ (hR.putA ha h1 (e.trans (congrArg some (set_arrI _ _ _ _))) (by show (xs.set _ _).length = xs.length; simp) z oq) h3
theorem r_cast (X : Cx g h0 p s m args meth c own cc nL ret) (hR : HS g s h H locs) {v : Option Nat} {i x : Int32} {K : AH → Prop} (hdg : decode cc pc = .ok (.castore, 1)) (hw : sI g h v 2 i (vp_nar .char x) K)
    (kk : ∀ (H : Heap) (locs : List Loc) (h : AH), HS g s h H locs → K h → W p l e R s m args below meth c H locs cells slots Q (F0 m (pc + 1) ls rest)) : W p l e R s m args below meth c H locs cells slots Q (F0 m pc ls (.int x :: .int i :: va_rf v :: rest)) := by
  obtain ⟨a, xs, rfl, ha, h1, h2, h3⟩ := hw
  refine W.cast X.hx X.hb (hR.1.2.2 a _ h1) ((X.hK.2 2 _ (tyG_at g 2 (by decide))).1 xs.length (fun j => .int (xs.getD j 0))) (fun q => by cases q) (by show ¬ (i < 0 ∨ (arrV _ _ _).slots.size ≤ _); rw [arrV_size]; exact h2) rfl rfl hdg fun H1 e z oq => ?_
  exact kk H1 _ _ (hR.putA ha h1 (e.trans (congrArg some (set_arrI _ _ _ _))) (by show (xs.set _ _).length = xs.length; simp) z oq) h3
theorem r_last (X : Cx g h0 p s m args meth c own cc nL ret) (hR : HS g s h H locs) {v : Option Nat} {i : Int32} {x : Int64} {K : AH → Prop} (hdg : decode cc pc = .ok (.lastore, 1)) (hw : sJ g h v 3 i x K)
    (kk : ∀ (H : Heap) (locs : List Loc) (h : AH), HS g s h H locs → K h → W p l e R s m args below meth c H locs cells slots Q (F0 m (pc + 1) ls rest)) : W p l e R s m args below meth c H locs cells slots Q (F0 m pc ls (.long x :: .int i :: va_rf v :: rest)) := by
  obtain ⟨a, xs, rfl, ha, h1, h2, h3⟩ := hw
  refine W.last X.hx X.hb (hR.1.2.2 a _ h1) ((X.hK.2 3 _ (tyG_at g 3 (by decide))).1 xs.length (fun j => .long (xs.getD j 0))) (fun q => by cases q) (by show ¬ (i < 0 ∨ (arrV _ _ _).slots.size ≤ _); rw [arrV_size]; exact h2) rfl rfl hdg fun H1 e z oq => ?_
  exact kk H1 _ _ (hR.putA ha h1 (e.trans (congrArg some (set_arrJ _ _ _ _))) (by show (xs.set _ _).length = xs.length; simp) z oq) h3
/-- may an object of the class ci stand in an array of E -/
def AK (E : String) (ci : Nat) : Prop := ∃ q : vw_C, clG[ci]? = some q ∧ (q.1 = E ∨ Cond.castable q.1 E ∈ lw_tbl)
theorem r_aast (X : Cx g h0 p s m args meth c own cc nL ret) (hR : HS g s h H locs) {v x : Option Nat} {t : Nat} {cis : List Nat} {i : Int32} {K : AH → Prop} {E : String} (h4 : 4 ≤ t) (h9 : t < 9) (hE : tyA t = .object E) (hA : ∀ ci ∈ cis, AK E ci) (hdg : decode cc pc = .ok (.aastore, 1)) (hw : sR g h v t cis i x K)
    (kk : ∀ (H : Heap) (locs : List Loc) (h : AH), HS g s h H locs → K h → W p l e R s m args below meth c H locs cells slots Q (F0 m (pc + 1) ls rest)) : W p l e R s m args below meth c H locs cells slots Q (F0 m pc ls (va_rf x :: .int i :: va_rf v :: rest)) := by
  obtain ⟨a, b, ci, fs, xs, rfl, rfl, ha, h1, hb, hci, h2, h3⟩ := hw
  have hlt : i.toNatClampNeg < xs.length := Nat.not_le.mp fun q => h2 (Or.inr q)
  have hi0 : ¬ i < 0 := fun q => h2 (Or.inl q)
  obtain ⟨r, hr, hEr⟩ := hA ci hci
  obtain ⟨r', hr', cellV, g1, g2, g3, -⟩ := hR.1.2.2 b _ hb
  have hrr : r' = r := Option.some.inj (hr'.symm.trans hr)
  subst hrr
  have hcls := (X.hK.1 ci _ hr).2
  have hty := tyG_at g t h9
  rw [hE] at hty
  obtain ⟨kA, comp, k1, k2, k3, -⟩ := (X.hK.2 t _ hty).2
  have hcls1 := hcls.1
  obtain ⟨kC, hkC, -⟩ := hcls.2
  have has : s.vm.assignable (g.2.1.1 ci) comp = true := by
    rcases hEr with q | q
    · rw [q] at hcls1
      have : comp = g.2.1.1 ci := Option.some.inj (k3.symm.trans hcls1)
      subst this
      exact va_assign hcls
    · obtain ⟨x, t1, f1, f2, f3⟩ := Cond.castable_spec (va_Nw.use (A := #[]) rfl (X.hN _ q rfl))
      cases f1.symm.trans hcls1
      cases f2.symm.trans k3
      exact f3
  obtain ⟨kE, hkE, -⟩ := Vm.findClass_spec k3
  refine W.aast X.hx X.hb (hR.1.2.2 a _ h1) (fun q h => by cases h) (fun h => by cases h) k1 k2 rfl hkE ⟨hi0, by show _ < (arrV _ _ _).slots.size; rw [arrV_size]; exact hlt⟩ g1 (fun q h => by rw [g3] at h; cases h) (by rw [g2]; exact hkC) (by rw [g2]; exact has) rfl rfl hdg fun H1 e z oq => ?_
  exact kk H1 _ _ (hR.putA ha h1 (e.trans (congrArg some (set_arrR (g.2.2.1 t) xs i.toNatClampNeg (some b)))) (by show (xs.set _ _).length = xs.length; simp) z oq) h3
theorem r_alen (X : Cx g h0 p s m args meth c own cc nL ret) (hR : HS g s h H locs) {v : Option Nat} {K : Int32 → Prop} (hdg : decode cc pc = .ok (.arraylength, 1)) (hw : aL h v K)
    (kk : ∀ x : Int32, K x → W p l e R s m args below meth c H locs cells slots Q (F0 m (pc + 1) ls (.int x :: rest))) : W p l e R s m args below meth c H locs cells slots Q (F0 m pc ls (va_rf v :: rest)) := by
  obtain ⟨a, t, x, rfl, h1, h2, h3⟩ := hw
  exact va_alen X.hx X.hb X.hK (hR.P h1) 0 t rfl (tyG_at g t h2) rfl hdg (kk _ h3)
end Rows2
