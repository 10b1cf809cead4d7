set_option maxRecDepth 100000
section Rows4
variable {p : Program} {l : Launch} {e : Env} {s : State} {m : MethodId} {args : Array Value} {below : List Frame} {meth : Method} {c : Code} {H : Heap} {locs : List Loc} {cells slots : Nat} {Q : State → Prop} {cc : ByteArray} {pc nL : Nat} {ls : Array Slot} {rest st0 : List Value} {g : GT} {h h0 : AH} {own : String} {ret : Option FieldType} {d : Nat}
/-! returns and throws -/
theorem r_end (X : Cx g h0 p s m args meth c own cc nL ret) (hR : HS g s h H locs) {Q : Option Value → AH → Prop} {E : Nat → AH → Prop} {fr : JFrame}
    (k : ∀ (hq : ∀ (r : Option Value), Q r h → ∀ t : State, t.heap = H → s.WarmedH t.vm → QcT g Q args s (.returned r) t) (hf : ∀ q ∈ locs, g.1 ≤ q.base), W p l e (RM d h0) s m args below meth c H locs (CL - h0.2.1) (SL - h0.2.2) (MQ below (QcT g Q) args s (CL - h0.2.1) (SL - h0.2.2) (fun a => g.1 ≤ a)) fr) : W p l e (RM d h0) s m args below meth c H locs cells slots (MQT below g Q E args s h0) fr := by
  refine W_tight X.2.2.1 hR fun hm => ?_
  obtain ⟨hRA, hS, b1, b2⟩ := hR
  refine W.widen (k := CL - h0.2.1) (n := SL - h0.2.2) (by omega) (by omega) (vx_ret ?_)
  exact k (fun r hr t ht _ => ⟨r, h, rfl, hr, by rw [ht]; exact hRA, hS.F ht, b1, b2⟩) hS.2.2
theorem r_iret (X : Cx g h0 p s m args meth c own cc nL (some .int)) (hR : HS g s h H locs) {K : Int32 → AH → Prop} {E : Nat → AH → Prop} {x : Int32} (hdg : decode cc pc = .ok (.ireturn, 1)) (hw : K x h) : W p l e (RM d h0) s m args below meth c H locs cells slots (MQT below g (qI K) E args s h0) (F0 m pc ls [.int x]) := by
  have hlk := X.2.2.2.2
  exact r_end X hR fun hq hf => W.iret X.hx X.hb X.2.2.2.1 (hq _ ⟨x, rfl, hw⟩) hf hdg hlk
/-- a boolean, a byte, a char comes back -/
def nz (ty : FieldType) (x : Int32) (P : Prop) : Prop := narrow ty (.int x) = .int x ∧ P
theorem r_zret {ty : FieldType} (X : Cx g h0 p s m args meth c own cc nL (some ty)) (hR : HS g s h H locs) {K : Int32 → AH → Prop} {E : Nat → AH → Prop} {x : Int32} (hdg : decode cc pc = .ok (.ireturn, 1)) (hw : nz ty x (K x h)) : W p l e (RM d h0) s m args below meth c H locs cells slots (MQT below g (qI K) E args s h0) (F0 m pc ls [.int x]) := by
  have hlk := X.2.2.2.2
  exact r_end X hR fun hq hf => W.zret X.hx X.hb X.2.2.2.1 hw.1 (hq _ ⟨x, rfl, hw.2⟩) hf hdg hlk
theorem r_lret (X : Cx g h0 p s m args meth c own cc nL (some .long)) (hR : HS g s h H locs) {K : Int64 → AH → Prop} {E : Nat → AH → Prop} {x : Int64} (hdg : decode cc pc = .ok (.lreturn, 1)) (hw : K x h) : W p l e (RM d h0) s m args below meth c H locs cells slots (MQT below g (qJ K) E args s h0) (F0 m pc ls [.long x]) := by
  have hlk := X.2.2.2.2
  exact r_end X hR fun hq hf => W.lret X.hx X.hb X.2.2.2.1 (hq _ ⟨x, rfl, hw⟩) hf hdg hlk
theorem r_vret (X : Cx g h0 p s m args meth c own cc nL none) (hR : HS g s h H locs) {K : Unit → AH → Prop} {E : Nat → AH → Prop} {st : List Value} (hst : st = []) (hdg : decode cc pc = .ok (.return_, 1)) (hw : K () h) : W p l e (RM d h0) s m args below meth c H locs cells slots (MQT below g (qV K) E args s h0) (F0 m pc ls st) := by
  have hlk := X.2.2.2.2
  subst hst
  exact r_end X hR fun hq hf => W.vret X.hx X.hb X.2.2.2.1 (hq _ ⟨rfl, hw⟩) hf hdg hlk
theorem rf_or (v : Option Nat) : va_rf v = .null ∨ ∃ a, va_rf v = .ref a := by
  cases v with
  | none => exact Or.inl rfl
  | some a => exact Or.inr ⟨a, rfl⟩
theorem r_aret {ty : FieldType} (X : Cx g h0 p s m args meth c own cc nL (some ty)) (hty : (∃ n, ty = .object n) ∨ ∃ t, ty = .array t) (hR : HS g s h H locs) {K : Option Nat → AH → Prop} {E : Nat → AH → Prop} {v : Option Nat} (hdg : decode cc pc = .ok (.areturn, 1)) (hw : K v h) : W p l e (RM d h0) s m args below meth c H locs cells slots (MQT below g (qR K) E args s h0) (F0 m pc ls [va_rf v]) := by
  have hlk := X.2.2.2.2
  exact r_end X hR fun hq hf => W.aret X.hx X.hb X.2.2.2.1 hty (rf_or v) (hq _ ⟨v, rfl, hw⟩) hf hdg hlk
/-- an exception leaves the method -/
theorem r_out (X : Cx g h0 p s m args meth c own cc nL ret) (hxt : c.exceptionTable.toList = []) (hR : HS g s h H locs) {Q : Option Value → AH → Prop} {E : Nat → AH → Prop} {q ci : Nat} {fs : List Value} (hw : E q h) (hc : h.1 q = some (.inr (ci, fs))) : vx_W p l e (RM d h0) s m args below meth c H locs cells slots (MQT below g Q E args s h0) (F0 m pc ls rest) q := by
  refine vx_tight X.2.2.1 hR fun hm => ?_
  obtain ⟨hRA, hS, b1, b2⟩ := hR
  obtain ⟨r, g1, ce, k1, k2, k3, -⟩ := hRA.2.2 q _ hc
  have hcl := (X.hK.1 ci r g1).2.1
  have hn : clN ci = r.1 := by unfold clN; rw [g1]; rfl
  exact vx_out (E := clN ci) (fun x hx => by rw [hxt] at hx; cases hx) X.2.2.2.2 k1 k3 (by rw [k2, hn]; exact hcl) (fun t ht _ => ⟨h, ci, fs, hw, hc, rfl, by rw [ht]; exact hRA, hS.F ht, b1, b2⟩) hS.2.2 (by omega) (by omega)
def tO (h : AH) (v : Option Nat) (E : Nat → AH → Prop) : Prop := ∃ (a ci : Nat) (fs : List Value), v = some a ∧ h.1 a = some (.inr (ci, fs)) ∧ E a h
theorem r_throw (X : Cx g h0 p s m args meth c own cc nL ret) (hxt : c.exceptionTable.toList = []) (hR : HS g s h H locs) {Q : Option Value → AH → Prop} {E : Nat → AH → Prop} {v : Option Nat} (hdg : decode cc pc = .ok (.athrow, 1)) (hw : tO h v E) : W p l e (RM d h0) s m args below meth c H locs cells slots (MQT below g Q E args s h0) (F0 m pc ls (va_rf v :: rest)) := by
  obtain ⟨a, ci, fs, rfl, hc, hE⟩ := hw
  exact vx_athrow X.hx X.hb hdg (r_out X hxt hR hE hc)
/-! calls -/
def RunT (p : Program) (l : Launch) (e : Env) (s : State) (m : MethodId) (args : Array Value) (below : List Frame) (meth : Method) (c : Code) (g : GT) (h0 : AH) (d : Nat) (h : AH) (H : Heap) (locs : List Loc) (fr : JFrame) (rest : List Value) (Q1 : Option Value → AH → Prop) (E1 : Nat → AH → Prop) : Prop :=
  h0.2.1 ≤ h.2.1 ∧ h0.2.2 ≤ h.2.2 → ∃ a : Array Value, vx_Run p l e (RM d h0) s m args below meth c H locs (h.2.1 - h0.2.1) (h.2.2 - h0.2.2) (CL - h.2.1) (SL - h.2.2) fr rest (QcT g Q1 a) (XcT g E1) (fun a => g.1 ≤ a)
theorem r_run (X : Cx g h0 p s m args meth c own cc nL ret) (hR : HS g s h H locs) {Q1 : Option Value → AH → Prop} {E1 : Nat → AH → Prop} (run : RunT p l e s m args below meth c g h0 d h H locs (F0 m pc ls st0) rest Q1 E1)
    (kk : ∀ (r : Option Value) (h : AH) (H : Heap) (locs : List Loc) (cells slots : Nat), HS g s h H locs → Q1 r h → W p l e (RM d h0) s m args below meth c H locs cells slots Q (F0 m (pc + 3) ls (r.toList ++ rest)))
    (kx : ∀ (q : Nat) (h : AH) (ci : Nat) (fs : List Value) (H : Heap) (locs : List Loc) (cells slots : Nat), HS g s h H locs → E1 q h → h.1 q = some (.inr (ci, fs)) → vx_W p l e (RM d h0) s m args below meth c H locs cells slots Q (F0 m pc ls rest) q) : W p l e (RM d h0) s m args below meth c H locs cells slots Q (F0 m pc ls st0) := by
  refine W_tight X.2.2.1 hR fun hm => ?_
  obtain ⟨a, run⟩ := run hm
  obtain ⟨hRA, hS, b1, b2⟩ := hR
  have keep : ∀ (st₀ t T' : State) (L : List Loc), st₀.heap = H → T'.heap = t.heap → (∀ q ∈ L, g.1 ≤ q.base) → va_F (fun a => g.1 ≤ a) st₀ t → va_S (fun a => g.1 ≤ a) s.heap T'.heap (locs ++ L) := by
    intro st₀ t T' L e1 e2 hL hF
    refine ⟨by rw [e2]; exact Nat.le_trans hS.1 (by rw [← e1]; exact hF.1), fun q y1 y2 => ?_, fun q hq => ?_⟩
    · rw [e2, hF.2 q (by rw [e1]; exact Nat.lt_of_lt_of_le y1 hS.1) y2, e1]
      exact hS.2.1 q y1 y2
    · rcases List.mem_append.mp hq with h | h
      · exact hS.2.2 q h
      · exact hL q h
  intro T hT Y
  rcases run T hT Y with ⟨v, st₀, t, T', L, e0, Y', hL, e1, e2, ⟨r, h', hv, hq, hRA', hF, c1, c2⟩, st⟩ | ⟨q, st₀, t, T', L, En, ce, e0, Y', hL, e1, e2, ⟨h', ci, fs, hq, hc, hn, hRA', hF, c1, c2⟩, f1, f2, f3, st⟩
  · cases hv
    obtain ⟨t2, a1, b1⟩ := kk v h' T'.heap (locs ++ L) _ _ ⟨by rw [e1]; exact hRA', keep st₀ t T' L e0 e1 hL hF, c1, c2⟩ hq T' rfl Y'
    exact ⟨t2, st t2 a1, b1⟩
  · obtain ⟨t2, a1, b1⟩ := kx q h' ci fs T'.heap (locs ++ L) _ _ ⟨by rw [e1]; exact hRA', keep st₀ t T' L e0 e1 hL hF, c1, c2⟩ hq hc T' rfl Y'
    exact ⟨t2, st.trans a1, b1⟩
def E0 : Nat → AH → Prop := fun _ _ => False
theorem r_callI (X : Cx g h0 p s m args meth c own cc nL ret) (hR : HS g s h H locs) {K : Int32 → AH → Prop} (run : RunT p l e s m args below meth c g h0 d h H locs (F0 m pc ls st0) rest (qI K) E0)
    (kk : ∀ (x : Int32) (h : AH) (H : Heap) (locs : List Loc) (cells slots : Nat), HS g s h H locs → K x h → W p l e (RM d h0) s m args below meth c H locs cells slots Q (F0 m (pc + 3) ls (.int x :: rest))) : W p l e (RM d h0) s m args below meth c H locs cells slots Q (F0 m pc ls st0) :=
  r_run X hR run (fun r h H locs cells slots hR hw => by obtain ⟨x, rfl, hw⟩ := hw; exact kk x h H locs cells slots hR hw) (fun q h ci fs H locs cells slots hR hw _ => hw.elim)
theorem r_callJ (X : Cx g h0 p s m args meth c own cc nL ret) (hR : HS g s h H locs) {K : Int64 → AH → Prop} (run : RunT p l e s m args below meth c g h0 d h H locs (F0 m pc ls st0) rest (qJ K) E0)
    (kk : ∀ (x : Int64) (h : AH) (H : Heap) (locs : List Loc) (cells slots : Nat), HS g s h H locs → K x h → W p l e (RM d h0) s m args below meth c H locs cells slots Q (F0 m (pc + 3) ls (.long x :: rest))) : W p l e (RM d h0) s m args below meth c H locs cells slots Q (F0 m pc ls st0) :=
  r_run X hR run (fun r h H locs cells slots hR hw => by obtain ⟨x, rfl, hw⟩ := hw; exact kk x h H locs cells slots hR hw) (fun q h ci fs H locs cells slots hR hw _ => hw.elim)
theorem r_callR (X : Cx g h0 p s m args meth c own cc nL ret) (hR : HS g s h H locs) {K : Option Nat → AH → Prop} (run : RunT p l e s m args below meth c g h0 d h H locs (F0 m pc ls st0) rest (qR K) E0)
    (kk : ∀ (x : Option Nat) (h : AH) (H : Heap) (locs : List Loc) (cells slots : Nat), HS g s h H locs → K x h → W p l e (RM d h0) s m args below meth c H locs cells slots Q (F0 m (pc + 3) ls (va_rf x :: rest))) : W p l e (RM d h0) s m args below meth c H locs cells slots Q (F0 m pc ls st0) :=
  r_run X hR run (fun r h H locs cells slots hR hw => by obtain ⟨x, rfl, hw⟩ := hw; exact kk x h H locs cells slots hR hw) (fun q h ci fs H locs cells slots hR hw _ => hw.elim)
theorem r_callV (X : Cx g h0 p s m args meth c own cc nL ret) (hR : HS g s h H locs) {K : Unit → AH → Prop} (run : RunT p l e s m args below meth c g h0 d h H locs (F0 m pc ls st0) rest (qV K) E0)
    (kk : ∀ (x : Unit) (h : AH) (H : Heap) (locs : List Loc) (cells slots : Nat), HS g s h H locs → K x h → W p l e (RM d h0) s m args below meth c H locs cells slots Q (F0 m (pc + 3) ls rest)) : W p l e (RM d h0) s m args below meth c H locs cells slots Q (F0 m pc ls st0) :=
  r_run X hR run (fun r h H locs cells slots hR hw => by obtain ⟨rfl, hw⟩ := hw; exact kk () h H locs cells slots hR hw) (fun q h ci fs H locs cells slots hR hw _ => hw.elim)
/-! .. of methods that may throw; the caller has no handlers -/
theorem r_callIx (X : Cx g h0 p s m args meth c own cc nL ret) (hxt : c.exceptionTable.toList = []) (hR : HS g s h H locs) {K : Int32 → AH → Prop} {Q : Option Value → AH → Prop} {E : Nat → AH → Prop} (run : RunT p l e s m args below meth c g h0 d h H locs (F0 m pc ls st0) rest (qI K) E)
    (kk : ∀ (x : Int32) (h : AH) (H : Heap) (locs : List Loc) (cells slots : Nat), HS g s h H locs → K x h → W p l e (RM d h0) s m args below meth c H locs cells slots (MQT below g Q E args s h0) (F0 m (pc + 3) ls (.int x :: rest))) : W p l e (RM d h0) s m args below meth c H locs cells slots (MQT below g Q E args s h0) (F0 m pc ls st0) :=
  r_run X hR run (fun r h H locs cells slots hR hw => by obtain ⟨x, rfl, hw⟩ := hw; exact kk x h H locs cells slots hR hw) (fun q h ci fs H locs cells slots hR hw hc => r_out X hxt hR hw hc)
theorem r_callRx (X : Cx g h0 p s m args meth c own cc nL ret) (hxt : c.exceptionTable.toList = []) (hR : HS g s h H locs) {K : Option Nat → AH → Prop} {Q : Option Value → AH → Prop} {E : Nat → AH → Prop} (run : RunT p l e s m args below meth c g h0 d h H locs (F0 m pc ls st0) rest (qR K) E)
    (kk : ∀ (x : Option Nat) (h : AH) (H : Heap) (locs : List Loc) (cells slots : Nat), HS g s h H locs → K x h → W p l e (RM d h0) s m args below meth c H locs cells slots (MQT below g Q E args s h0) (F0 m (pc + 3) ls (va_rf x :: rest))) : W p l e (RM d h0) s m args below meth c H locs cells slots (MQT below g Q E args s h0) (F0 m pc ls st0) :=
  r_run X hR run (fun r h H locs cells slots hR hw => by obtain ⟨x, rfl, hw⟩ := hw; exact kk x h H locs cells slots hR hw) (fun q h ci fs H locs cells slots hR hw hc => r_out X hxt hR hw hc)
theorem r_callVx (X : Cx g h0 p s m args meth c own cc nL ret) (hxt : c.exceptionTable.toList = []) (hR : HS g s h H locs) {K : Unit → AH → Prop} {Q : Option Value → AH → Prop} {E : Nat → AH → Prop} (run : RunT p l e s m args below meth c g h0 d h H locs (F0 m pc ls st0) rest (qV K) E)
    (kk : ∀ (x : Unit) (h : AH) (H : Heap) (locs : List Loc) (cells slots : Nat), HS g s h H locs → K x h → W p l e (RM d h0) s m args below meth c H locs cells slots (MQT below g Q E args s h0) (F0 m (pc + 3) ls rest)) : W p l e (RM d h0) s m args below meth c H locs cells slots (MQT below g Q E args s h0) (F0 m pc ls st0) :=
  r_run X hR run (fun r h H locs cells slots hR hw => by obtain ⟨rfl, hw⟩ := hw; exact kk () h H locs cells slots hR hw) (fun q h ci fs H locs cells slots hR hw hc => r_out X hxt hR hw hc)
/-! how the callee is reached -/
theorem pre_U (X : Cx g h0 p s m args meth c own cc nL ret) (hR : HS g s h H locs) (av : List Value) : ∀ U : State, U.heap = H → s.WarmedH U.vm → PcT g h av av.toArray U := by
  intro U hU hW
  refine ⟨rfl, by rw [hU]; exact hR.1, X.2.1.warm hW fun a h1 h2 => ?_⟩
  rw [hU]
  exact hR.2.1.2.1 a h1 h2
def MHok (y : MethodName) (n : Nat) : Prop := y.cls ≠ "java/lang/invoke/MethodHandle" ∧ y.cls ≠ "java/lang/invoke/VarHandle" ∧ (parseMethodDescriptor y.desc).map (fun d => d.parameters.length) = some n
theorem rm_ok {d' maxL : Nat} {h : AH} (h1 : d' + 1 ≤ d) (h2 : maxL ≤ 45) : (RM d' h).frames + 1 ≤ (RM d h0).frames ∧ 8 + (maxL + 11) + (RM d' h).locals ≤ (RM d h0).locals := ⟨h1, by show 8 + (maxL + 11) + 64 * d' ≤ 64 * d; omega⟩
theorem rm_cs (hm : h0.2.1 ≤ h.2.1 ∧ h0.2.2 ≤ h.2.2) (hR : HS g s h H locs) : h.2.1 - h0.2.1 + (CL - h.2.1) ≤ (RM d h0).cells ∧ h.2.2 - h0.2.2 + (SL - h.2.2) ≤ (RM d h0).slots := by
  obtain ⟨-, -, b1, b2⟩ := hR
  exact ⟨by show _ ≤ CL - h0.2.1; omega, by show _ ≤ SL - h0.2.2; omega⟩
theorem rr_recv (X : Cx g h0 p s m args meth c own cc nL ret) (hR : HS g s h H locs) {b ci : Nat} {fs : List Value} {q : vw_C} (hc : h.1 b = some (.inr (ci, fs))) (hq : clG[ci]? = some q) : ∃ cellB : Cell, H[b]? = some cellB ∧ cellB.vm.isStatics = false ∧ s.vm.findClass q.1 = some cellB.cls := va_recv X.hK (hR.P hc) hq (q0 := 0) rfl
section Kinds
variable {α : Type} {qq : (α → AH → Prop) → Option Value → AH → Prop} {K : α → AH → Prop} {E : Nat → AH → Prop} {y : MethodName} {bytes : ByteArray} {maxL d' n index : Nat} {rt : Option FieldType} {As : List Value} {wp : wpT α}
/-- a method of the receiver's own class -/
theorem c_V (X : Cx g h0 p s m args meth c own cc nL ret) (hR : HS g s h H locs) (hls : ls.size = nL) {v : Option Nat} {ci : Nat} {q : vw_C} (hM : CT qq l y (ws_ y bytes maxL rt) d' g (va_rf v :: As) wp) (hG : GoodIn lw_all (wsV own index y.cls y (ws_ y bytes maxL rt))) (hq : clG[ci]? = some q) (hqy : q.1 = y.cls) (hd : MHok y n) (hn : As.length = n) (hdd : d' + 1 ≤ d) (hmx : maxL ≤ 45) (hst : st0 = As.reverse ++ va_rf v :: rest) (hcat : (rest.map fun v => v.category).sum ≤ 8) (hdg : decode cc pc = .ok (.invokevirtual index, 3)) (hw : isO h v ci ∧ wp K E h) : RunT p l e s m args below meth c g h0 d h H locs (F0 m pc ls st0) rest (qq K) E := by
  obtain ⟨⟨b, fs, rfl, hc⟩, hw⟩ := hw
  intro hm
  have hrec := rr_recv X hR hc hq
  rw [hqy] at hrec
  exact ⟨_, vx_runV (n := n) X.1 (hM h K E hR.2.2.1 hR.2.2.2 hw) (cwV n X.hts hG rfl rfl rfl ⟨rfl, hd⟩ (rm_ok hdd hmx)) ⟨PcT_blind g h _, hrec, pre_U X hR _⟩ rfl hn hls hst (lv_room hcat) hdg (rm_cs hm hR)⟩
/-- a method of a class above -/
theorem c_U (X : Cx g h0 p s m args meth c own cc nL ret) (hR : HS g s h H locs) (hls : ls.size = nL) {x : MethodName} {C owner : String} {v : Option Nat} {ci : Nat} {q : vw_C} (hM : CT qq l y (ws_ y bytes maxL rt) d' g (va_rf v :: As) wp) (hq : clG[ci]? = some q) (hqy : q.1 = C) (hcu : va_CU (RM d h0) s args own C owner index x y bytes maxL rt (ws_ y bytes maxL rt) (RM d' h) (CL - h.2.1) (SL - h.2.2) n) (hn : As.length = n) (hst : st0 = As.reverse ++ va_rf v :: rest) (hcat : (rest.map fun v => v.category).sum ≤ 8) (hdg : decode cc pc = .ok (.invokevirtual index, 3)) (hw : isO h v ci ∧ wp K E h) : RunT p l e s m args below meth c g h0 d h H locs (F0 m pc ls st0) rest (qq K) E := by
  obtain ⟨⟨b, fs, rfl, hc⟩, hw⟩ := hw
  intro hm
  have hrec := rr_recv X hR hc hq
  rw [hqy] at hrec
  exact ⟨_, vx_runU (n := n) X.1 (hM h K E hR.2.2.1 hR.2.2.2 hw) hcu ⟨PcT_blind g h _, hrec, pre_U X hR _⟩ rfl hn hls hst (lv_room hcat) hdg (rm_cs hm hR)⟩
theorem c_S (X : Cx g h0 p s m args meth c own cc nL ret) (hR : HS g s h H locs) (hls : ls.size = nL) (hM : CT qq l y (ws_ y bytes maxL rt) d' g As wp) (hG : GoodIn lw_all (va_wsS own index y (ws_ y bytes maxL rt))) (hd : MHok y n) (hn : As.length = n) (hdd : d' + 1 ≤ d) (hmx : maxL ≤ 45) (hst : st0 = As.reverse ++ rest) (hcat : (rest.map fun v => v.category).sum ≤ 8) (hdg : decode cc pc = .ok (.invokestatic index, 3)) (hw : wp K E h) : RunT p l e s m args below meth c g h0 d h H locs (F0 m pc ls st0) rest (qq K) E := by
  intro hm
  exact ⟨_, vx_runS (n := n) X.1 (hM h K E hR.2.2.1 hR.2.2.2 hw) (va_cwS n X.hts hG rfl rfl rfl hd (rm_ok hdd hmx)) ⟨PcT_blind g h _, pre_U X hR _⟩ rfl hn hls hst (lv_room hcat) hdg (rm_cs hm hR)⟩
theorem c_SN (X : Cx g h0 p s m args meth c own cc nL ret) (hR : HS g s h H locs) (hls : ls.size = nL) {host : String} (hM : CT qq l y (ws_ y bytes maxL rt) d' g As wp) (hG : GoodIn lw_all (ws_ y bytes maxL rt)) (hl : Cond.methodLinkNest own index y host ∈ lw_tbl) (hini : Cond.initialized y.cls ∈ lw_all) (hstt : Cond.static y ∈ lw_all) (hd : MHok y n) (hn : As.length = n) (hdd : d' + 1 ≤ d) (hmx : maxL ≤ 45) (hst : st0 = As.reverse ++ rest) (hcat : (rest.map fun v => v.category).sum ≤ 8) (hdg : decode cc pc = .ok (.invokestatic index, 3)) (hw : wp K E h) : RunT p l e s m args below meth c g h0 d h H locs (F0 m pc ls st0) rest (qq K) E := by
  intro hm
  exact ⟨_, vx_runSN (n := n) X.1 (hM h K E hR.2.2.1 hR.2.2.2 hw) ⟨va_cnB n X.hts hG rfl rfl rfl (X.hN _ hl rfl) (X.hts _ hini) hd (rm_ok hdd hmx), X.hts _ hstt, trivial⟩ ⟨PcT_blind g h _, pre_U X hR _⟩ rfl hn hls hst (lv_room hcat) hdg (rm_cs hm hR)⟩
theorem c_I (X : Cx g h0 p s m args meth c own cc nL ret) (hR : HS g s h H locs) (hls : ls.size = nL) {v : Option Nat} (hM : CT qq l y (ws_ y bytes maxL none) d' g (va_rf v :: As) wp) (hG : GoodIn lw_all (ws_ y bytes maxL none)) (hini : Cond.initialized y.cls ∈ lw_all) (hl : Cond.methodLink own index y ∈ lw_all) (hin : Cond.instanceMethod y ∈ lw_all) (hy : y.name = "<init>") (hd : MHok y n) (hn : As.length = n) (hdd : d' + 1 ≤ d) (hmx : maxL ≤ 45) (hst : st0 = As.reverse ++ va_rf v :: rest) (hcat : (rest.map fun v => v.category).sum ≤ 8) (hdg : decode cc pc = .ok (.invokespecial index, 3)) (hw : ¬ v = none ∧ wp K E h) : RunT p l e s m args below meth c g h0 d h H locs (F0 m pc ls st0) rest (qq K) E := by
  obtain ⟨hv, hw⟩ := hw
  cases v with
  | none => exact absurd rfl hv
  | some b =>
    intro hm
    exact ⟨_, vx_runI (n := n) X.1 (hM h K E hR.2.2.1 hR.2.2.2 hw) (cwI n X.hts hG rfl rfl rfl (X.hts _ hini) (X.hts _ hl) (X.hts _ hin) hy hd (rm_ok hdd hmx)) ⟨PcT_blind g h _, pre_U X hR _⟩ rfl hn hls hst (lv_room hcat) hdg (rm_cs hm hR)⟩
theorem c_IN (X : Cx g h0 p s m args meth c own cc nL ret) (hR : HS g s h H locs) (hls : ls.size = nL) {v : Option Nat} {host : String} (hM : CT qq l y (ws_ y bytes maxL none) d' g (va_rf v :: As) wp) (hG : GoodIn lw_all (ws_ y bytes maxL none)) (hini : Cond.initialized y.cls ∈ lw_all) (hl : Cond.methodLinkNest own index y host ∈ lw_tbl) (hin : Cond.instanceMethod y ∈ lw_all) (hy : y.name = "<init>") (hd : MHok y n) (hn : As.length = n) (hdd : d' + 1 ≤ d) (hmx : maxL ≤ 45) (hst : st0 = As.reverse ++ va_rf v :: rest) (hcat : (rest.map fun v => v.category).sum ≤ 8) (hdg : decode cc pc = .ok (.invokespecial index, 3)) (hw : ¬ v = none ∧ wp K E h) : RunT p l e s m args below meth c g h0 d h H locs (F0 m pc ls st0) rest (qq K) E := by
  obtain ⟨hv, hw⟩ := hw
  cases v with
  | none => exact absurd rfl hv
  | some b =>
    intro hm
    exact ⟨_, vx_runIN (n := n) X.1 (hM h K E hR.2.2.1 hR.2.2.2 hw) ⟨va_cnB n X.hts hG rfl rfl rfl (X.hN _ hl rfl) (X.hts _ hini) hd (rm_ok hdd hmx), hy, X.hts _ hin⟩ ⟨PcT_blind g h _, pre_U X hR _⟩ rfl hn hls hst (lv_room hcat) hdg (rm_cs hm hR)⟩
theorem c_SU (X : Cx g h0 p s m args meth c own cc nL ret) (hR : HS g s h H locs) (hls : ls.size = nL) {v : Option Nat} {ci : Nat} {q : vw_C} (hM : CT qq l y (ws_ y bytes maxL rt) d' g (va_rf v :: As) wp) (hq : clG[ci]? = some q) (hG : GoodIn lw_all (va_wsSU own index y (ws_ y bytes maxL rt))) (hd : y.name ≠ "<init>" ∧ (parseMethodDescriptor y.desc).map (fun d => d.parameters.length) = some n) (hn : As.length = n) (hdd : d' + 1 ≤ d) (hmx : maxL ≤ 45) (hst : st0 = As.reverse ++ va_rf v :: rest) (hcat : (rest.map fun v => v.category).sum ≤ 8) (hdg : decode cc pc = .ok (.invokespecial index, 3)) (hw : isO h v ci ∧ wp K E h) : RunT p l e s m args below meth c g h0 d h H locs (F0 m pc ls st0) rest (qq K) E := by
  obtain ⟨⟨b, fs, rfl, hc⟩, hw⟩ := hw
  intro hm
  exact ⟨_, vx_runSU (n := n) (X.hK.1 ci q hq).2 X.1 (hM h K E hR.2.2.1 hR.2.2.2 hw) (va_cwSU n X.hts hG rfl rfl rfl hd (rm_ok hdd hmx)) ⟨PcT_blind g h _, rr_recv X hR hc hq, pre_U X hR _⟩ rfl hn hls hst (lv_room hcat) hdg (rm_cs hm hR)⟩
end Kinds
end Rows4
