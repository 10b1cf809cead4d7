set_option maxRecDepth 100000
section Rows
variable {p : Program} {l : Launch} {e : Env} {R : Room} {s : State} {m : MethodId} {args : Array Value} {below : List Frame} {meth : Method} {c : Code} {H : Heap} {locs : List Loc} {cells slots : Nat} {Q : State → Prop} {cc : ByteArray} {pc nL : Nat} {ls : Array Slot} {rest : List Value} {g : GT} {h h0 : AH} {own : String} {ret : Option FieldType} {d : Nat}
theorem Cx.hx (X : Cx g h0 p s m args meth c own cc nL ret) : p.tables.exec = Jvm.exec := X.1.1
theorem Cx.hb (X : Cx g h0 p s m args meth c own cc nL ret) : c.code = cc := X.1.2.1
theorem Cx.hml (X : Cx g h0 p s m args meth c own cc nL ret) : c.maxLocals = nL := X.1.2.2.1
theorem Cx.hown (X : Cx g h0 p s m args meth c own cc nL ret) : s.vm.findClass own = some m.cls := X.1.2.2.2.1
theorem Cx.hts (X : Cx g h0 p s m args meth c own cc nL ret) : ∀ w ∈ lw_all, w.before args s = true := X.1.2.2.2.2
theorem Cx.hK (X : Cx g h0 p s m args meth c own cc nL ret) : va_K g.2.1 clG (tysG g) s := X.2.1.1
theorem Cx.hN (X : Cx g h0 p s m args meth c own cc nL ret) : NWU s := X.2.1.2.1
/-! fields -/
def FL (own : String) (index : Nat) (ref n d : String) : Prop := Cond.fieldLink own index ref n d ∈ lw_all ∨ ∃ host : String, Cond.fieldLinkNest own index ref n d host ∈ lw_tbl
def FS (ref own' n d : String) : Prop := ref = own' ∨ Cond.sameField ref own' n d ∈ lw_all
def FK (own : String) (index k ci : Nat) : Prop := ∃ (C : String) (T : u_T) (N : Nat) (ref : String), clG[ci]? = some (C, T, N) ∧ k < N ∧ (∀ w ∈ u_ws C T N, w ∈ lw_all) ∧ FL own index ref (T k).2.1 (T k).2.2.1 ∧ FS ref (T k).1 (T k).2.1 (T k).2.2.1
def FP (own : String) (index k : Nat) (ty : FieldType) (ci : Nat) : Prop := ∃ (C : String) (T : u_T) (N : Nat) (ref : String) (ty0 : Nat → FieldType), clG[ci]? = some (C, T, N) ∧ k < N ∧ (∀ w ∈ u_ws C T N, w ∈ lw_all) ∧ FL own index ref (T k).2.1 (T k).2.2.1 ∧ FS ref (T k).1 (T k).2.1 (T k).2.2.1 ∧
  (∀ k, k < N → parseFieldDescriptor (T k).2.2.1 = some (ty0 k)) ∧ (∀ a, a < N → ∀ b, b < N → a ≠ b → (T a).2.1 ≠ (T b).2.1) ∧ parseFieldDescriptor (T k).2.2.1 = some ty ∧ ((T k).2.2.2 = false ∨ ((T k).2.2.2 = true ∧ (T k).1 = own ∧ Cond.fieldLink own index ref (T k).2.1 (T k).2.2.1 ∈ lw_all))
theorem FS.same {ref own' n d : String} (h : FS ref own' n d) (hts : ∀ w ∈ lw_all, w.before args s = true) : ∀ x, s.fieldFound? own' n d = some x → s.fieldFound? ref n d = some x := by
  rcases h with h | h
  · subst h; exact fun _ q => q
  · exact u_same (hts _ h)
theorem r_get (X : Cx g h0 p s m args meth c own cc nL ret) (hR : HS g s h H locs) {a ci k index : Nat} {fs : List Value} {v : Value} (hF : FK own index k ci) (hc : h.1 a = some (.inr (ci, fs))) (hv : fs[k]? = some v) (hdg : decode cc pc = .ok (.getfield index, 3))
    (kk : W p l e R s m args below meth c H locs cells slots Q (F0 m (pc + 3) ls (v :: rest))) : W p l e R s m args below meth c H locs cells slots Q (F0 m pc ls (.ref a :: rest)) := by
  obtain ⟨C, T, N, ref, h1, h2, h3, h4, h5⟩ := hF
  have hP : va_P g.2.1 clG [(a, .inr (ci, fs))] H := by
    intro j q hq
    match j, hq with
    | 0, hq => cases hq; exact hR.1.2.2 a _ hc
  rcases h4 with h4 | ⟨host, h4⟩
  · exact va_get X.hx X.hb X.hts h3 X.hown X.hK hP 0 rfl h1 k h2 (X.hts _ h4) (h5.same X.hts) hv hdg kk
  · exact va_getN X.hx X.hb X.hts h3 X.hown X.hK hP 0 rfl h1 k h2 (va_Nw.use rfl (X.hN _ h4 rfl)) (h5.same X.hts) hv hdg kk
theorem r_gI (X : Cx g h0 p s m args meth c own cc nL ret) (hR : HS g s h H locs) {k index : Nat} {v : Option Nat} {cis : List Nat} {K : Int32 → Prop} (hF : ∀ ci ∈ cis, FK own index k ci) (hdg : decode cc pc = .ok (.getfield index, 3)) (hw : gI h v cis k K)
    (kk : ∀ x : Int32, K x → W p l e R s m args below meth c H locs cells slots Q (F0 m (pc + 3) ls (.int x :: rest))) : W p l e R s m args below meth c H locs cells slots Q (F0 m pc ls (va_rf v :: rest)) := by
  obtain ⟨a, ci, fs, x, rfl, h1, h2, h3, h4⟩ := hw
  exact r_get X hR (hF ci h2) h1 h3 hdg (kk x h4)
theorem r_gJ (X : Cx g h0 p s m args meth c own cc nL ret) (hR : HS g s h H locs) {k index : Nat} {v : Option Nat} {cis : List Nat} {K : Int64 → Prop} (hF : ∀ ci ∈ cis, FK own index k ci) (hdg : decode cc pc = .ok (.getfield index, 3)) (hw : gJ h v cis k K)
    (kk : ∀ x : Int64, K x → W p l e R s m args below meth c H locs cells slots Q (F0 m (pc + 3) ls (.long x :: rest))) : W p l e R s m args below meth c H locs cells slots Q (F0 m pc ls (va_rf v :: rest)) := by
  obtain ⟨a, ci, fs, x, rfl, h1, h2, h3, h4⟩ := hw
  exact r_get X hR (hF ci h2) h1 h3 hdg (kk x h4)
theorem r_gR (X : Cx g h0 p s m args meth c own cc nL ret) (hR : HS g s h H locs) {k index : Nat} {v : Option Nat} {cis : List Nat} {K : Option Nat → Prop} (hF : ∀ ci ∈ cis, FK own index k ci) (hdg : decode cc pc = .ok (.getfield index, 3)) (hw : gR h v cis k K)
    (kk : ∀ x : Option Nat, K x → W p l e R s m args below meth c H locs cells slots Q (F0 m (pc + 3) ls (va_rf x :: rest))) : W p l e R s m args below meth c H locs cells slots Q (F0 m pc ls (va_rf v :: rest)) := by
  obtain ⟨a, ci, fs, x, rfl, h1, h2, h3, h4⟩ := hw
  exact r_get X hR (hF ci h2) h1 h3 hdg (kk x h4)
theorem HS.put (hR : HS g s h H locs) {H1 : Heap} {a i : Nat} {e : AC} {cell cell' : Cell} (ha : g.1 ≤ a) (hc : H[a]? = some cell) (hc1 : H1[a]? = some cell') (hz : cell'.slots.size = cell.slots.size) (hs : H1.size = H.size) (ho : ∀ q, q ≠ a → H1[q]? = H[q]?) (hat : va_at g.2.1 clG (a, acE g e) H1) : HS g s (updH h a e) H1 (locs ++ [⟨a, i⟩]) :=
  ⟨hR.1.put hc hc1 hz hs ho hat, hR.2.1.put hs ho ha, hR.2.2⟩
theorem r_put (X : Cx g h0 p s m args meth c own cc nL ret) (hR : HS g s h H locs) {k index : Nat} {v : Option Nat} {x : Value} {ty : FieldType} {cis : List Nat} {K : AH → Prop} (hF : ∀ ci ∈ cis, FP own index k ty ci) (hfin : (∀ ci ∈ cis, ∀ q : vw_C, clG[ci]? = some q → (q.2.1 k).2.2.2 = false) ∨ meth.name = "<init>") (hnf : narrow ty x = x ∧ fits ty x = true) (hdg : decode cc pc = .ok (.putfield index, 3)) (hw : pV g h v cis k x K)
    (kk : ∀ (H : Heap) (locs : List Loc) (h : AH), HS g s h H locs → K h → W p l e R s m args below meth c H locs cells slots Q (F0 m (pc + 3) ls rest)) : W p l e R s m args below meth c H locs cells slots Q (F0 m pc ls (x :: va_rf v :: rest)) := by
  obtain ⟨a, ci, fs, rfl, ha, h1, h2, h3, h4⟩ := hw
  obtain ⟨C, T, N, ref, ty0, g1, hk, hin, hl, hsm, hty, hnm, hd, hff⟩ := hF ci h2
  have hat := hR.1.2.2 a _ h1
  obtain ⟨r, b1, cell, q1, q2, q3, q4⟩ := hat
  have hr : r = (C, T, N) := Option.some.inj (b1.symm.trans g1)
  subst hr
  have hap := va_apart (own := own) X.hts hin ty0 hty hnm X.hK g1
  obtain ⟨hS, hfc, kC, hkC, hkind⟩ := X.hK.1 ci _ g1
  obtain ⟨cf, kf, fi, f, hi, hsl⟩ := hS k hk
  have hlay := X.hts _ (hin _ (u_in_lay hk))
  unfold u_lay at hlay
  have hst := (u_facts hfc hkC (u_lays X.hts hin hk) hi).1
  have fin : ∀ H' : Heap, H'[a]? = some (cell.setSlot (g.2.1.2 ci k) x) → H'.size = H.size → (∀ q, q ≠ a → H'[q]? = H[q]?) → HS g s (updH h a (.inr (ci, fs.set k x))) H' (locs ++ [⟨a, g.2.1.2 ci k⟩]) := by
    intro H' e1 e2 e3
    refine hR.put ha q1 e1 ?_ e2 e3 ⟨_, g1, t_OB.to (V := updV (vp_V fs) k x) ⟨_, e1, q2, q3, t_set q4 hap hk x⟩ (fun j _ => vp_updV_set h3 x j)⟩
    show (cell.slots.setIfInBounds _ _).size = _
    simp
  by_cases hf : (T k).2.2.2 = true
  · rw [if_pos hf] at hlay
    rcases hff with hff | ⟨-, hdecl, hlk⟩
    · rw [hf] at hff; cases hff
    have hin2 : meth.name = "<init>" := by
      rcases hfin with q | q
      · have := q ci h2 _ g1
        rw [hf] at this; cases this
      · exact q
    have hcf : m.cls = cf := by
      obtain ⟨_, _, c', _, _, _, -, -, hf', -, -, -, hown2, -⟩ := Cond.laysFinal_spec hlay
      have e1 : c' = cf := by have := hi.symm.trans hf'; simp at this; exact this.1.symm
      rw [hdecl] at hown2
      rw [← e1]; exact Option.some.inj (X.hown.symm.trans hown2)
    have h6 := u_fits hfc hkC hkind (Or.inr hlay) hi hd hnf.1 hnf.2
    refine W.putFinK X.hx X.hb X.hown (X.hts _ hlk) (hsm.same X.hts _ hi) hst hcf hin2 (by rw [q2]; exact h6) q1 q3 (by rw [hsl]; exact k2_hasslot (q4 k hk)) rfl rfl hdg fun H' e1 e2 e3 => ?_
    rw [hsl] at e1 ⊢
    exact kk H' _ _ (fin H' e1 e2 e3) h4
  · rw [if_neg hf] at hlay
    have h6 := u_store hfc hkC hkind hlay hi hd hnf.1 hnf.2
    rcases hl with hl | ⟨host, hl⟩
    · refine W.putK X.hx X.hb (f := f) ⟨X.hown, X.hts _ hl, ⟨_, _, _, hsm.same X.hts _ hi⟩, hst⟩ (by rw [q2]; exact h6) q1 q3 (by rw [hsl]; exact k2_hasslot (q4 k hk)) rfl rfl hdg fun H' e1 e2 e3 => ?_
      rw [hsl] at e1 ⊢
      exact kk H' _ _ (fin H' e1 e2 e3) h4
    · refine va_WputK X.hx X.hb (f := f) X.hown (va_Nw.use rfl (X.hN _ hl rfl)) (hsm.same X.hts _ hi) hst (by rw [q2]; exact h6) q1 q3 (by rw [hsl]; exact k2_hasslot (q4 k hk)) rfl rfl hdg fun H' e1 e2 e3 => ?_
      rw [hsl] at e1 ⊢
      exact kk H' _ _ (fin H' e1 e2 e3) h4
theorem nf_int (x : Int32) : narrow .int (.int x) = .int x ∧ fits .int (.int x) = true := ⟨rfl, rfl⟩
theorem nf_long (x : Int64) : narrow .long (.long x) = .long x ∧ fits .long (.long x) = true := ⟨rfl, rfl⟩
theorem nf_obj (C : String) (x : Option Nat) : narrow (.object C) (va_rf x) = va_rf x ∧ fits (.object C) (va_rf x) = true := by cases x <;> exact ⟨rfl, rfl⟩
theorem nf_arr (t : FieldType) (x : Option Nat) : narrow (.array t) (va_rf x) = va_rf x ∧ fits (.array t) (va_rf x) = true := by cases x <;> exact ⟨rfl, rfl⟩
end Rows
