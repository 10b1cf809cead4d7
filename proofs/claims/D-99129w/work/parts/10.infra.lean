set_option maxRecDepth 100000
/-! ===== the abstract heap, tied to the machine's ===== -/
/-- base address; classes and slots; array classes; string constants; static references -/
abbrev GT : Type := Nat × va_G × (Nat → ClassId) × (Nat → Nat) × (Nat → Option Nat)
abbrev AArr : Type := List Int32 ⊕ List Int64 ⊕ List (Option Nat)
abbrev AC : Type := (Nat × AArr) ⊕ (Nat × List Value)
abbrev AH : Type := (Nat → Option AC) × Nat × Nat
def CL : Nat := 1200128
def SL : Nat := 5501098
abbrev c_str : vw_C := (RJ3, TJ3, 4)
def clG : List vw_C := [c_str, (RX1, TX1, 21), (RX2, TX2, 10), (RX3, TX3, 8), (RX4, TX4, 4), (RX5, TX5, 3), (RX6, TX6, 6), (RX7, TX7, 7), (RX8, TX8, 32), (RX9, TX9, 11), (RJ9, TJ9, 6), c_str, (RX12, TX12, 2), (RX13, TX13, 2), (RX14, TX14, 2), c_str, (RX16, TY16, 5), (RX17, TY17, 5), (RX18, TY18, 5), (RX19, TY19, 5), c_str, (RX21, TX21, 3), (RX22, TX22, 2), (RX23, TX23, 3), (RX24, TX24, 2), (RX25, TX25, 3), (RX26, TX26, 23)]
def tyA (t : Nat) : FieldType := match t with
  | 0 => .int
  | 1 => .byte
  | 2 => .char
  | 3 => .long
  | 4 => .object RX4
  | 5 => .object RX11
  | 6 => .object RX15
  | 7 => .object RX20
  | _ => .object RX25
def tysG (g : GT) : List (ClassId × FieldType) := [(g.2.2.1 0, .int), (g.2.2.1 1, .byte), (g.2.2.1 2, .char), (g.2.2.1 3, .long), (g.2.2.1 4, .object RX4), (g.2.2.1 5, .object RX11), (g.2.2.1 6, .object RX15), (g.2.2.1 7, .object RX20), (g.2.2.1 8, .object RX25)]
def arrP (x : AArr) : vp_A := match x with
  | .inl xs => (xs.length, .inl (fun j => xs.getD j 0))
  | .inr (.inl xs) => (xs.length, .inr (.inl (fun j => xs.getD j 0)))
  | .inr (.inr xs) => (xs.length, .inr (.inr (.inr (.inr (fun j => xs.getD j none)))))
def acE (g : GT) (e : AC) : va_E := match e with
  | .inl o => .inl (g.2.2.1 o.1, arrP o.2)
  | .inr o => .inr o
def acN (e : AC) : Nat := match e with
  | .inl o => (arrP o.2).1
  | .inr o => o.2.length
def sl (H : Heap) (k : Nat) : Nat := ((H.toList.drop k).map (·.slots.size)).sum
def RA (g : GT) (h : AH) (H : Heap) : Prop := H.size = g.1 + h.2.1 ∧ sl H g.1 = h.2.2 ∧ ∀ (a : Nat) (e : AC), h.1 a = some e → va_at g.2.1 clG (a, acE g e) H
def updH (h : AH) (a : Nat) (e : AC) : AH := (fun b => if b = a then some e else h.1 b, h.2.1, h.2.2)
def newH (g : GT) (h : AH) (e : AC) (n : Nat) : AH := (fun b => if b = g.1 + h.2.1 then some e else h.1 b, h.2.1 + 1, h.2.2 + n)
theorem sl_congr {H H1 : Heap} {k : Nat} (h : ∀ q : Nat, (H1[q]?).map (·.slots.size) = (H[q]?).map (·.slots.size)) : sl H1 k = sl H k := by
  have e : H1.toList.map (·.slots.size) = H.toList.map (·.slots.size) := by
    apply List.ext_getElem?
    intro q
    rw [List.getElem?_map, List.getElem?_map, Array.getElem?_toList, Array.getElem?_toList]
    exact h q
  unfold sl
  rw [List.map_drop, List.map_drop, e]
theorem sl_push {H H1 : Heap} {k : Nat} {cell : Cell} (hk : k ≤ H.size) (h1 : H1[H.size]? = some cell) (h2 : H1.size = H.size + 1) (h3 : ∀ q, q < H.size → H1[q]? = H[q]?) : sl H1 k = sl H k + cell.slots.size := by
  have e : H1.toList = H.toList ++ [cell] := by
    apply List.ext_getElem?
    intro q
    rw [Array.getElem?_toList]
    rcases Nat.lt_trichotomy q H.size with hq | hq | hq
    · rw [List.getElem?_append_left (by simpa using hq), Array.getElem?_toList]
      exact h3 q hq
    · subst hq
      rw [List.getElem?_append_right (by simp), h1]
      simp
    · rw [Array.getElem?_eq_none (by omega), List.getElem?_append_right (by simp; omega)]
      rw [List.getElem?_eq_none]
      simp
      omega
  unfold sl
  rw [e, List.drop_append_of_le_length (by simpa using hk)]
  simp
theorem sl_split {H H0 : Heap} {k : Nat} (hk : k ≤ H0.size) (hle : H0.size ≤ H.size) (h : ∀ q : Nat, q < H0.size → (H[q]?).map (·.slots.size) = (H0[q]?).map (·.slots.size)) : sl H k = sl H0 k + sl H H0.size := by
  have h' : ∀ q : Nat, q < H0.size → (H.toList[q]?).map (·.slots.size) = (H0.toList[q]?).map (·.slots.size) := by
    intro q hq
    rw [Array.getElem?_toList, Array.getElem?_toList]
    exact h q hq
  have z0 : H0.toList.length = H0.size := by simp
  have z1 : H.toList.length = H.size := by simp
  have e : (H.toList.take H0.size).map (·.slots.size) = H0.toList.map (·.slots.size) := by
    apply List.ext_getElem?
    intro q
    rw [List.getElem?_map, List.getElem?_map]
    by_cases hq : q < H0.size
    · rw [List.getElem?_take_of_lt hq]
      exact h' q hq
    · rw [List.getElem?_eq_none (by rw [List.length_take]; omega), List.getElem?_eq_none (by omega)]
  have e2 : H.toList.drop k = (H.toList.take H0.size).drop k ++ H.toList.drop H0.size := by
    conv => lhs; rw [← List.take_append_drop H0.size H.toList]
    rw [List.drop_append_of_le_length (by simp; omega)]
  unfold sl
  rw [e2, List.map_append, List.sum_append, List.map_drop, e]
  simp only [List.map_drop]
theorem RA.put {g : GT} {h : AH} {H H1 : Heap} {a : Nat} {e : AC} {cell cell' : Cell} (hR : RA g h H) (hc : H[a]? = some cell) (hc1 : H1[a]? = some cell') (hz : cell'.slots.size = cell.slots.size) (hs : H1.size = H.size) (ho : ∀ q, q ≠ a → H1[q]? = H[q]?) (hat : va_at g.2.1 clG (a, acE g e) H1) : RA g (updH h a e) H1 := by
  obtain ⟨h1, h2, h3⟩ := hR
  refine ⟨hs.trans h1, (sl_congr fun q => ?_).trans h2, fun b f hb => ?_⟩
  · by_cases hq : q = a
    · subst hq
      rw [hc, hc1]
      simp [hz]
    · rw [ho q hq]
  · unfold updH at hb
    dsimp only at hb
    by_cases hba : b = a
    · subst hba
      rw [if_pos rfl] at hb
      cases hb
      exact hat
    · rw [if_neg hba] at hb
      exact (h3 b f hb).kept (ho b hba)
theorem RA.new {g : GT} {h : AH} {H H1 : Heap} {e : AC} {cell : Cell} {n : Nat} (hR : RA g h H) (hc : H1[H.size]? = some cell) (hz : cell.slots.size = n) (hs : H1.size = H.size + 1) (ho : ∀ q, q < H.size → H1[q]? = H[q]?) (hat : va_at g.2.1 clG (H.size, acE g e) H1) : RA g (newH g h e n) H1 := by
  obtain ⟨h1, h2, h3⟩ := hR
  refine ⟨by unfold newH; dsimp only; omega, ?_, fun b f hb => ?_⟩
  · rw [sl_push (by omega) hc hs ho, h2, hz]
    rfl
  · unfold newH at hb
    dsimp only at hb
    by_cases hba : b = g.1 + h.2.1
    · rw [if_pos hba] at hb
      cases hb
      rw [hba, ← h1]
      exact hat
    · rw [if_neg hba] at hb
      have := h3 b f hb
      exact this.kept (ho b this.lt)
