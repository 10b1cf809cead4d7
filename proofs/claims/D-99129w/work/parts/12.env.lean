set_option maxRecDepth 100000
def strl : List (String × Nat × String × Nat) := [("UmbrellaHeir$Reader", 59, "", 0), ("UmbrellaHeir$Reader", 90, "county", 1), ("UmbrellaHeir$Reader", 92, "person", 2), ("UmbrellaHeir$Reader", 94, "umbrella", 3), ("UmbrellaHeir$Reader", 96, "lent", 4), ("UmbrellaHeir$Reader", 98, "left", 5), ("UmbrellaHeir$Reader", 100, "changed", 6), ("UmbrellaHeir$Reader", 102, "rain", 7), ("UmbrellaHeir$Reader", 104, "claims", 8), ("UmbrellaHeir$Reader", 174, "lapse", 9), ("UmbrellaHeir$Reader", 179, "gust", 10), ("UmbrellaHeir$Reader", 183, "rains", 11), ("UmbrellaHeir$Reader", 187, "plain", 12), ("UmbrellaHeir$Reader", 194, "child", 13), ("UmbrellaHeir$Reader", 199, "careless", 14), ("UmbrellaHeir$Reader", 220, "silk", 15), ("UmbrellaHeir$Reader", 225, "cotton", 16), ("UmbrellaHeir$Reader", 230, "stick", 17), ("UmbrellaHeir$Reader", 235, "parasol", 18), ("UmbrellaHeir$Reader", 244, "lands", 19), ("UmbrellaHeir$Reader", 248, "ribs", 20), ("UmbrellaHeir$Reader", 252, "with", 21), ("UmbrellaHeir$Reader", 263, "day", 22), ("UmbrellaHeirModel", 136, "county", 1), ("UmbrellaHeirModel", 138, "person", 2), ("UmbrellaHeirModel", 140, "umbrella", 3), ("UmbrellaHeirModel", 142, "lent", 4), ("UmbrellaHeirModel", 144, "left", 5), ("UmbrellaHeirModel", 146, "changed", 6), ("UmbrellaHeirModel", 148, "rain", 7), ("UmbrellaHeirModel", 150, "claims", 8), ("UmbrellaHeirModel", 221, "lapse", 9), ("UmbrellaHeirModel", 226, "gust", 10), ("UmbrellaHeirModel", 228, "rains", 11), ("UmbrellaHeirModel", 242, "plain", 12), ("UmbrellaHeirModel", 244, "child", 13), ("UmbrellaHeirModel", 246, "careless", 14), ("UmbrellaHeirModel", 253, "silk", 15), ("UmbrellaHeirModel", 255, "cotton", 16), ("UmbrellaHeirModel", 257, "stick", 17), ("UmbrellaHeirModel", 259, "parasol", 18), ("UmbrellaHeirModel", 261, "lands", 19), ("UmbrellaHeirModel", 263, "ribs", 20), ("UmbrellaHeirModel", 265, "with", 21), ("UmbrellaHeirModel", 285, "day", 22), ("java/lang/String", 7, "", 0)]
def STU (g : GT) (U : State) : Prop := ∀ q ∈ strl, vk_R q.1 q.2.1 q.2.2.1 (g.2.2.2.1 q.2.2.2) U
theorem STU.warm {g : GT} {s U : State} (hW : s.WarmedH U.vm) (h : STU g s) : STU g U := fun q hq => (h q hq).warm hW
def stal (g : GT) : List (String × String × String × Value) := [("java/lang/String", "COMPACT_STRINGS", "Z", .int 1), ("java/lang/Throwable", "UNASSIGNED_STACK", "[Ljava/lang/StackTraceElement;", va_rf (g.2.2.2.2 0)), ("java/lang/Throwable", "SUPPRESSED_SENTINEL", "Ljava/util/List;", va_rf (g.2.2.2.2 1)), ("jdk/internal/util/Preconditions", "SIOOBE_FORMATTER", "Ljava/util/function/BiFunction;", va_rf (g.2.2.2.2 2)), ("java/lang/StringUTF16", "$assertionsDisabled", "Z", .int 1), ("java/lang/StringUTF16", "HI_BYTE_SHIFT", "I", .int 0), ("java/lang/StringUTF16", "LO_BYTE_SHIFT", "I", .int 8)]
def STA (g : GT) (U : State) (H : Heap) : Prop := ∀ q ∈ stal g, va_Z q.1 q.2.1 q.2.2.1 q.2.2.2 (fun a => g.1 ≤ a) U H
def EnvU (g : GT) (U : State) : Prop := va_K g.2.1 clG (tysG g) U ∧ NWU U ∧ NCU U ∧ STU g U ∧ STA g U U.heap
theorem EnvU.warm {g : GT} {s U : State} (hW : s.WarmedH U.vm) (hH : ∀ a : Nat, a < s.heap.size → ¬ g.1 ≤ a → U.heap[a]? = s.heap[a]?) (h : EnvU g s) : EnvU g U := by
  obtain ⟨h1, h2, h3, h4, h5⟩ := h
  exact ⟨h1.moved hW.alike, h2.warm hW, h3.warm hW.alike, h4.warm hW, fun q hq => ((h5 q hq).moved hW.alike).kept hH⟩
/-- the heap as the walk sees it -/
def HS (g : GT) (s : State) (h : AH) (H : Heap) (locs : List Loc) : Prop := RA g h H ∧ va_S (fun a => g.1 ≤ a) s.heap H locs ∧ h.2.1 ≤ CL ∧ h.2.2 ≤ SL
def RM (d : Nat) (h0 : AH) : Room := { frames := d, cells := CL - h0.2.1, slots := SL - h0.2.2, locals := 64 * d }
def clN (ci : Nat) : String := ((clG[ci]?).map (fun q => q.1)).getD ""
def PcT (g : GT) (h : AH) (av : List Value) : Array Value → State → Prop := va_Pc av (fun U => RA g h U.heap ∧ EnvU g U)
def QcT (g : GT) (Q : Option Value → AH → Prop) : Array Value → State → Outcome → State → Prop := fun _ st oc t => ∃ (r : Option Value) (h' : AH), oc = .returned r ∧ Q r h' ∧ RA g h' t.heap ∧ va_F (fun a => g.1 ≤ a) st t ∧ h'.2.1 ≤ CL ∧ h'.2.2 ≤ SL
def XcT (g : GT) (E : Nat → AH → Prop) : String → Addr → State → State → Prop := fun n q st t => ∃ (h' : AH) (ci : Nat) (fs : List Value), E q h' ∧ h'.1 q = some (.inr (ci, fs)) ∧ n = clN ci ∧ RA g h' t.heap ∧ va_F (fun a => g.1 ≤ a) st t ∧ h'.2.1 ≤ CL ∧ h'.2.2 ≤ SL
abbrev wpT (α : Type) : Type := (α → AH → Prop) → (Nat → AH → Prop) → AH → Prop
def qI (K : Int32 → AH → Prop) : Option Value → AH → Prop := fun r h => ∃ x : Int32, r = some (.int x) ∧ K x h
def qJ (K : Int64 → AH → Prop) : Option Value → AH → Prop := fun r h => ∃ x : Int64, r = some (.long x) ∧ K x h
def qR (K : Option Nat → AH → Prop) : Option Value → AH → Prop := fun r h => ∃ x : Option Nat, r = some (va_rf x) ∧ K x h
def qV (K : Unit → AH → Prop) : Option Value → AH → Prop := fun r h => r = none ∧ K () h
/-- the contract of a method with that weakest precondition -/
def CT {α : Type} (qq : (α → AH → Prop) → Option Value → AH → Prop) (l : Launch) (y : MethodName) (ws : List Cond) (d : Nat) (g : GT) (av : List Value) (wp : wpT α) : Prop :=
  ∀ (h : AH) (K : α → AH → Prop) (E : Nat → AH → Prop), h.2.1 ≤ CL → h.2.2 ≤ SL → wp K E h → vx_Met l y ws (RM d h) (PcT g h av) (QcT g (qq K)) (XcT g E) (CL - h.2.1) (SL - h.2.2) (fun a => g.1 ≤ a)
/-- where a walk ends -/
def MQT (below : List Frame) (g : GT) (Q : Option Value → AH → Prop) (E : Nat → AH → Prop) (args : Array Value) (s : State) (h0 : AH) : State → Prop := vx_MQ below (QcT g Q) (XcT g E) args s (CL - h0.2.1) (SL - h0.2.2) (fun a => g.1 ≤ a)
/-- what a walk leans on -/
def Cx (g : GT) (h0 : AH) (p : Program) (s : State) (m : MethodId) (args : Array Value) (meth : Method) (c : Code) (own : String) (cc : ByteArray) (nL : Nat) (ret : Option FieldType) : Prop :=
  CallFix p m c cc nL s args lw_all own ∧ EnvU g s ∧ RA g h0 s.heap ∧ meth.sig.returnType = ret ∧ meth.locks = false
section EnvA
variable {p : Program} {l : Launch} {e : Env} {R : Room} {s : State} {m : MethodId} {args : Array Value} {below : List Frame} {meth : Method} {c : Code} {H : Heap} {locs : List Loc} {cells slots : Nat} {Q : State → Prop} {fr : JFrame} {g : GT} {h0 h : AH}
theorem W_tight (h0R : RA g h0 s.heap) (hR : HS g s h H locs)
    (k : h0.2.1 ≤ h.2.1 ∧ h0.2.2 ≤ h.2.2 → W p l e R s m args below meth c H locs (h.2.1 - h0.2.1) (h.2.2 - h0.2.2) Q fr) : W p l e R s m args below meth c H locs cells slots Q fr := by
  intro T hT X
  obtain ⟨hRA, ⟨hsz, -, -⟩, -⟩ := hR
  obtain ⟨a1, a2, a3, a4, a5, a6⟩ := X.same
  have hh : (T.setVm s.vm).heap = H := hT
  have hsl : sl H g.1 = sl s.heap g.1 + sl H s.heap.size := sl_split (by have := h0R.1; omega) hsz (fun q hq => by
    obtain ⟨c0, hc0⟩ : ∃ c0, s.heap[q]? = some c0 := ⟨_, Array.getElem?_eq_getElem hq⟩
    obtain ⟨c', b1, -, b3, -⟩ := a6 q c0 hc0
    rw [hh] at b1
    rw [b1, hc0]
    simp [b3])
  have e1 := h0R.1
  have e2 := hRA.1
  have e3 := h0R.2.1
  have e4 := hRA.2.1
  refine k ⟨by omega, by omega⟩ T hT { X with same := ?_ }
  refine ⟨a1, a2, ?_, a4, ?_, a6⟩
  · rw [hh]
    omega
  · rw [hh]
    show sl H s.heap.size ≤ _
    omega
theorem vx_tight {q : Addr} (h0R : RA g h0 s.heap) (hR : HS g s h H locs)
    (k : h0.2.1 ≤ h.2.1 ∧ h0.2.2 ≤ h.2.2 → vx_W p l e R s m args below meth c H locs (h.2.1 - h0.2.1) (h.2.2 - h0.2.2) Q fr q) : vx_W p l e R s m args below meth c H locs cells slots Q fr q := by
  intro T hT X
  obtain ⟨hRA, ⟨hsz, -, -⟩, -⟩ := hR
  obtain ⟨a1, a2, a3, a4, a5, a6⟩ := X.same
  have hh : (T.setVm s.vm).heap = H := hT
  have hsl : sl H g.1 = sl s.heap g.1 + sl H s.heap.size := sl_split (by have := h0R.1; omega) hsz (fun q hq => by
    obtain ⟨c0, hc0⟩ : ∃ c0, s.heap[q]? = some c0 := ⟨_, Array.getElem?_eq_getElem hq⟩
    obtain ⟨c', b1, -, b3, -⟩ := a6 q c0 hc0
    rw [hh] at b1
    rw [b1, hc0]
    simp [b3])
  have e1 := h0R.1
  have e2 := hRA.1
  have e3 := h0R.2.1
  have e4 := hRA.2.1
  refine k ⟨by omega, by omega⟩ T hT { X with same := ?_ }
  refine ⟨a1, a2, ?_, a4, ?_, a6⟩
  · rw [hh]
    omega
  · rw [hh]
    show sl H s.heap.size ≤ _
    omega
end EnvA
theorem PcT_blind (g : GT) (h : AH) (av : List Value) : FrameBlind (PcT g h av) := fun a U f mk q => ⟨q.1, q.2.1, EnvU.warm (s := U) (U := U.calling f mk a) (State.WarmedH.refl U) (fun _ _ _ => rfl) q.2.2⟩
section Starts
variable {l : Launch} {g : GT}
/-- a contract out of the walk of its body -/
theorem CT_of {α : Type} {qq : (α → AH → Prop) → Option Value → AH → Prop} {y : MethodName} {cc : ByteArray} {nL d : Nat} {ret : Option FieldType} {av : List Value} {lv : List (Nat × Value)} {wp : wpT α} (hy : plainName y.cls = true) (hlen : (lg_sl av).length ≤ nL) (hav : lv_args 0 av = lv)
    (body : ∀ (h0 : AH) (K : α → AH → Prop) (E : Nat → AH → Prop) (p : Program) (e : Env) (s : State) (m : MethodId) (args : Array Value) (below : List Frame) (meth : Method) (c : Code) (H : Heap) (locs : List Loc) (cells slots : Nat) (ls : Array Slot), Cx g h0 p s m args meth c y.cls cc nL ret → c.exceptionTable.toList = [] → meth.name = y.name → wp K E h0 → HS g s h0 H locs → lv_has ls nL lv →
      W p l e (RM d h0) s m args below meth c H locs cells slots (MQT below g (qq K) E args s h0) (F0 m 0 ls [])) : CT qq l y (ws_ y cc nL ret) d g av wp := by
  intro h K E hc1 hc2 hw
  refine vx_ofW (cc := cc) (maxL := nL) (ret := ret) hy rfl ?_
  intro p e s m args below meth c s₁ B hml hx hP
  obtain ⟨rfl, hRA, hE⟩ := hP
  have hts := atoms_spec (ws := ws_ y cc nL ret) B.pre
  have hl := lv_entry av (n := nL) hlen
  rw [hav] at hl
  rw [lg_entry_eq]
  generalize (lg_sl av ++ List.replicate (nL - (lg_sl av).length) Slot.unset).toArray = ls at hl ⊢
  exact body h K E p e s m _ below meth c s.heap [] 0 0 ls ⟨⟨B.exec, B.bytes, hml, findClass_of_methodNamed B.named, fun w hw => hts w (List.mem_cons_of_mem _ hw)⟩, hE, hRA, B.returns, B.notSynchronized⟩ (List.eq_nil_iff_forall_not_mem.mpr fun x hx' => hx x hx') (name_of_methodNamed B.named B.method).1 hw ⟨hRA, va_S.rf, hc1, hc2⟩ hl
end Starts
