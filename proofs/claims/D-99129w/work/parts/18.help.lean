set_option maxRecDepth 100000
def nmI (e : Int32) (K : Int32 → Prop) : Prop := K e
def nmJ (e : Int64) (K : Int64 → Prop) : Prop := K e
def dzI (y : Int32) (P : Prop) : Prop := ¬ y = 0 ∧ P
def dzJ (y : Int64) (P : Prop) : Prop := ¬ y = 0 ∧ P
def nfz (ty : FieldType) (x : Int32) (P : Prop) : Prop := (narrow ty (.int x) = .int x ∧ fits ty (.int x) = true) ∧ P
theorem cat_int (x : Int32) : (Value.int x).category = 1 := rfl
theorem cat_long (x : Int64) : (Value.long x).category = 2 := rfl
theorem cat_le (v : Value) : v.category ≤ 2 := by cases v <;> simp [Value.category]
theorem cat4 {rest : List Value} (h : rest.length ≤ 4) : (rest.map fun v => v.category).sum ≤ 8 := by
  have : ∀ l : List Value, (l.map fun v => v.category).sum ≤ 2 * l.length := by
    intro l
    induction l with
    | nil => exact Nat.le_refl _
    | cons a l ih =>
      rw [List.map_cons, List.sum_cons, List.length_cons]
      have := cat_le a
      omega
  have := this rest
  omega
section Rows6
variable {p : Program} {l : Launch} {e : Env} {R : Room} {s : State} {m : MethodId} {args : Array Value} {below : List Frame} {meth : Method} {c : Code} {H : Heap} {locs : List Loc} {cells slots : Nat} {Q : State → Prop} {cc : ByteArray} {pc nL : Nat} {ls : Array Slot} {rest st0 : List Value} {g : GT} {h h0 : AH} {own : String} {ret : Option FieldType} {d : Nat}
theorem r_nmI {x : Int32} {K : Int32 → Prop} (hw : nmI x K) (kk : ∀ x : Int32, K x → W p l e R s m args below meth c H locs cells slots Q (F0 m pc ls (.int x :: rest))) : W p l e R s m args below meth c H locs cells slots Q (F0 m pc ls (.int x :: rest)) := kk x hw
theorem r_nmJ {x : Int64} {K : Int64 → Prop} (hw : nmJ x K) (kk : ∀ x : Int64, K x → W p l e R s m args below meth c H locs cells slots Q (F0 m pc ls (.long x :: rest))) : W p l e R s m args below meth c H locs cells slots Q (F0 m pc ls (.long x :: rest)) := kk x hw
theorem r_iinc (X : Cx g h0 p s m args meth c own cc nL ret) {i k : Nat} {n : Int} {x v : Int32} {K : Int32 → Prop} {lv : List (Nat × Value)} {lv' : Int32 → List (Nat × Value)} (hdg : decode cc pc = .ok (.iinc i n, 3)) (hh : lv_has ls nL lv) (hk : lv[k]? = some (i, .int x)) (hv : x + Int32.ofInt n = v) (hn : i < nL) (hw : nmI v K) (hl : ∀ v : Int32, (i, Value.int v) :: lv.filter (fun q => !(q.1 == i) && !(q.1 + 1 == i && q.2.category == 2)) = lv' v)
    (kk : ∀ (v : Int32), K v → ∀ ls : Array Slot, lv_has ls nL (lv' v) → W p l e R s m args below meth c H locs cells slots Q (F0 m (pc + 3) ls rest)) : W p l e R s m args below meth c H locs cells slots Q (F0 m pc ls rest) :=
  lv_iinc X.hx X.hb hdg hh hk hv hn (hl v) (fun ls' h' => kk v hw ls' h')
theorem sw_out {x : Int32} {lo n : Nat} (hlo : lo + n < 2 ^ 31) (h : ∀ k, k < n → ¬ x = Int32.ofNat (lo + k)) : x.toInt < (lo : Int) ∨ ((lo : Int) + n - 1) < x.toInt := by
  refine Decidable.byContradiction fun q => ?_
  have h1 : (lo : Int) ≤ x.toInt := by omega
  have h2 : x.toInt < (lo : Int) + n := by omega
  refine h (x.toInt.toNat - lo) (by omega) ?_
  rw [← Int32.toInt_inj]
  have : (Int32.ofNat (lo + (x.toInt.toNat - lo))).toInt = ((lo + (x.toInt.toNat - lo) : Nat) : Int) := nI_toInt (by omega)
  rw [this]
  omega
theorem lk_out {x : Int32} {d : Int} : ∀ {l : List (Int × Int)}, (∀ q ∈ l, ¬ x = Int32.ofInt q.1) → Op.lookupswitch.offset l d x.toInt = d
  | [], _ => rfl
  | (a, o) :: r, h => by
    rw [Op.lookupswitch.offset_cons, if_neg, lk_out (fun q hq => h q (List.mem_cons_of_mem _ hq))]
    intro e
    refine h (a, o) List.mem_cons_self ?_
    show x = Int32.ofInt a
    rw [e, Int32.ofInt_toInt]
def letK {α : Type} (K : α → AH → Prop) (F : (α → AH → Prop) → Prop) : Prop := F K
theorem r_letRun {α : Type} {qq : (α → AH → Prop) → Option Value → AH → Prop} {K : α → AH → Prop} {E : Nat → AH → Prop} {fr : JFrame} {F : (α → AH → Prop) → Prop} (hw : letK K F) (f : ∀ K : α → AH → Prop, F K → RunT p l e s m args below meth c g h0 d h H locs fr rest (qq K) E) : RunT p l e s m args below meth c g h0 d h H locs fr rest (qq K) E := f K hw
/-- a switch -/
def swT (x : Int32) (vs : List (Int32 × Prop)) (D : Prop) : Prop := (∀ q ∈ vs, x = q.1 → q.2) ∧ ((∀ q ∈ vs, ¬ x = q.1) → D)
theorem swT_at {x v : Int32} {vs : List (Int32 × Prop)} {P D : Prop} (hw : swT x vs D) (i : Nat) (hi : vs[i]? = some (v, P)) (hx : x = v) : P := hw.1 _ (List.mem_of_getElem? hi) hx
end Rows6
section Rows7
variable {p : Program} {l : Launch} {e : Env} {s : State} {m : MethodId} {args : Array Value} {below : List Frame} {meth : Method} {c : Code} {H : Heap} {locs : List Loc} {cells slots : Nat} {Q : State → Prop} {cc : ByteArray} {pc nL : Nat} {ls : Array Slot} {rest st0 : List Value} {g : GT} {h h0 : AH} {own : String} {ret : Option FieldType} {d : Nat}
theorem r_max (X : Cx g h0 p s m args meth c own cc nL ret) (hls : ls.size = nL) (hR : HS g s h H locs) {index : Nat} {x y : Int32} (hl : Cond.methodLink own index ⟨"java/lang/Math", "max", "(II)I"⟩ ∈ lw_all) (hd : 1 ≤ d) (hcat : (rest.map fun v => v.category).sum ≤ 8) (hdg : decode cc pc = .ok (.invokestatic index, 3))
    (kk : ∀ cells slots : Nat, W p l e (RM d h0) s m args below meth c H locs cells slots Q (F0 m (pc + 3) ls (.int (if x < y then y else x) :: rest))) : W p l e (RM d h0) s m args below meth c H locs cells slots Q (F0 m pc ls (.int y :: .int x :: rest)) := by
  refine W_tight X.2.2.1 hR fun hm => ?_
  exact va_mmax X.hx X.hb (by rw [X.hml]; exact hls.symm) X.hown (X.hts _ hl) (X.hts _ q1273) (X.hts _ q148) (X.hts _ q1274) hd (by show _ ≤ 64 * d; omega) (by have := hR.2.2.1; show _ ≤ CL - h0.2.1; omega) (by have := hR.2.2.2; show _ ≤ SL - h0.2.2; omega) hdg (kk _ _)
theorem r_min (X : Cx g h0 p s m args meth c own cc nL ret) (hls : ls.size = nL) (hR : HS g s h H locs) {index : Nat} {x y : Int32} (hl : Cond.methodLink own index ⟨"java/lang/Math", "min", "(II)I"⟩ ∈ lw_all) (hd : 1 ≤ d) (hcat : (rest.map fun v => v.category).sum ≤ 8) (hdg : decode cc pc = .ok (.invokestatic index, 3))
    (kk : ∀ cells slots : Nat, W p l e (RM d h0) s m args below meth c H locs cells slots Q (F0 m (pc + 3) ls (.int (if y < x then y else x) :: rest))) : W p l e (RM d h0) s m args below meth c H locs cells slots Q (F0 m pc ls (.int y :: .int x :: rest)) := by
  refine W_tight X.2.2.1 hR fun hm => ?_
  exact va_mmin X.hx X.hb (by rw [X.hml]; exact hls.symm) X.hown (X.hts _ hl) (X.hts _ q1079) (X.hts _ q148) (X.hts _ q1080) hd (by show _ ≤ 64 * d; omega) (by have := hR.2.2.1; show _ ≤ CL - h0.2.1; omega) (by have := hR.2.2.2; show _ ≤ SL - h0.2.2; omega) hdg (kk _ _)
end Rows7
