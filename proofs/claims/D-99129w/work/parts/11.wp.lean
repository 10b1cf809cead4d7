set_option maxRecDepth 100000
/-! ===== weakest preconditions over the abstract heap ===== -/
def gI (h : AH) (v : Option Nat) (cis : List Nat) (k : Nat) (K : Int32 → Prop) : Prop := ∃ (a ci : Nat) (fs : List Value) (x : Int32), v = some a ∧ h.1 a = some (.inr (ci, fs)) ∧ ci ∈ cis ∧ fs[k]? = some (.int x) ∧ K x
def gJ (h : AH) (v : Option Nat) (cis : List Nat) (k : Nat) (K : Int64 → Prop) : Prop := ∃ (a ci : Nat) (fs : List Value) (x : Int64), v = some a ∧ h.1 a = some (.inr (ci, fs)) ∧ ci ∈ cis ∧ fs[k]? = some (.long x) ∧ K x
def gR (h : AH) (v : Option Nat) (cis : List Nat) (k : Nat) (K : Option Nat → Prop) : Prop := ∃ (a ci : Nat) (fs : List Value) (x : Option Nat), v = some a ∧ h.1 a = some (.inr (ci, fs)) ∧ ci ∈ cis ∧ fs[k]? = some (va_rf x) ∧ K x
def pV (g : GT) (h : AH) (v : Option Nat) (cis : List Nat) (k : Nat) (x : Value) (K : AH → Prop) : Prop := ∃ (a ci : Nat) (fs : List Value), v = some a ∧ g.1 ≤ a ∧ h.1 a = some (.inr (ci, fs)) ∧ ci ∈ cis ∧ k < fs.length ∧ K (updH h a (.inr (ci, fs.set k x)))
def aI (h : AH) (v : Option Nat) (t : Nat) (i : Int32) (K : Int32 → Prop) : Prop := ∃ (a : Nat) (xs : List Int32), v = some a ∧ h.1 a = some (.inl (t, .inl xs)) ∧ vp_in i xs.length ∧ K (xs.getD i.toNatClampNeg 0)
def aJ (h : AH) (v : Option Nat) (t : Nat) (i : Int32) (K : Int64 → Prop) : Prop := ∃ (a : Nat) (xs : List Int64), v = some a ∧ h.1 a = some (.inl (t, .inr (.inl xs))) ∧ vp_in i xs.length ∧ K (xs.getD i.toNatClampNeg 0)
def aR (h : AH) (v : Option Nat) (t : Nat) (i : Int32) (K : Option Nat → Prop) : Prop := ∃ (a : Nat) (xs : List (Option Nat)), v = some a ∧ h.1 a = some (.inl (t, .inr (.inr xs))) ∧ vp_in i xs.length ∧ K (xs.getD i.toNatClampNeg none)
def sI (g : GT) (h : AH) (v : Option Nat) (t : Nat) (i x : Int32) (K : AH → Prop) : Prop := ∃ (a : Nat) (xs : List Int32), v = some a ∧ g.1 ≤ a ∧ h.1 a = some (.inl (t, .inl xs)) ∧ vp_in i xs.length ∧ K (updH h a (.inl (t, .inl (xs.set i.toNatClampNeg x))))
def sJ (g : GT) (h : AH) (v : Option Nat) (t : Nat) (i : Int32) (x : Int64) (K : AH → Prop) : Prop := ∃ (a : Nat) (xs : List Int64), v = some a ∧ g.1 ≤ a ∧ h.1 a = some (.inl (t, .inr (.inl xs))) ∧ vp_in i xs.length ∧ K (updH h a (.inl (t, .inr (.inl (xs.set i.toNatClampNeg x)))))
/-- a store of an object of one of the classes cis in an array of references -/
def sR (g : GT) (h : AH) (v : Option Nat) (t : Nat) (cis : List Nat) (i : Int32) (x : Option Nat) (K : AH → Prop) : Prop := ∃ (a b ci : Nat) (fs : List Value) (xs : List (Option Nat)), v = some a ∧ x = some b ∧ g.1 ≤ a ∧ h.1 a = some (.inl (t, .inr (.inr xs))) ∧ h.1 b = some (.inr (ci, fs)) ∧ ci ∈ cis ∧ vp_in i xs.length ∧ K (updH h a (.inl (t, .inr (.inr (xs.set i.toNatClampNeg (some b))))))
def aL (h : AH) (v : Option Nat) (K : Int32 → Prop) : Prop := ∃ (a t : Nat) (x : AArr), v = some a ∧ h.1 a = some (.inl (t, x)) ∧ t < 9 ∧ K (nI (arrP x).1)
/-- a new object -/
def nO (g : GT) (h : AH) (ci N : Nat) (fs : List Value) (K : Option Nat → AH → Prop) : Prop := h.2.1 + 1 ≤ CL ∧ h.2.2 + N ≤ SL ∧ K (some (g.1 + h.2.1)) (newH g h (.inr (ci, fs)) N)
/-- a new array, all its places the same -/
def mkA (t : Nat) (n : Nat) : AArr := if t = 3 then .inr (.inl (List.replicate n 0)) else if t < 3 then .inl (List.replicate n 0) else .inr (.inr (List.replicate n none))
def nA (g : GT) (h : AH) (t : Nat) (n : Int32) (K : Option Nat → AH → Prop) : Prop := ¬ n < 0 ∧ n.toNatClampNeg ≤ 60000 ∧ h.2.1 + 1 ≤ CL ∧ h.2.2 + n.toNatClampNeg ≤ SL ∧ K (some (g.1 + h.2.1)) (newH g h (.inl (t, mkA t n.toNatClampNeg)) n.toNatClampNeg)
def isO (h : AH) (v : Option Nat) (ci : Nat) : Prop := ∃ (a : Nat) (fs : List Value), v = some a ∧ h.1 a = some (.inr (ci, fs))
/-- System.arraycopy of whole numbers -/
def cpL {α : Type} (xs ys : List α) (sp dp n : Nat) : List α := ys.take dp ++ (xs.drop sp).take n ++ ys.drop (dp + n)
def cI (g : GT) (h : AH) (v : Option Nat) (sp : Int32) (w : Option Nat) (dp n : Int32) (K : AH → Prop) : Prop := ∃ (a b : Nat) (xs ys : List Int32), v = some a ∧ w = some b ∧ g.1 ≤ b ∧ h.1 a = some (.inl (0, .inl xs)) ∧ h.1 b = some (.inl (0, .inl ys)) ∧ ¬ sp < 0 ∧ ¬ dp < 0 ∧ ¬ n < 0 ∧ sp.toNatClampNeg + n.toNatClampNeg ≤ xs.length ∧ dp.toNatClampNeg + n.toNatClampNeg ≤ ys.length ∧ K (updH h b (.inl (0, .inl (cpL xs ys sp.toNatClampNeg dp.toNatClampNeg n.toNatClampNeg))))
/-! loops -/
def LpN0 (B : (AH → Prop) → AH → Prop) : Nat → AH → Prop
  | 0 => fun _ => False
  | n + 1 => fun h => B (LpN0 B n) h
def Lp0 (B : (AH → Prop) → AH → Prop) (h : AH) : Prop := ∃ n, LpN0 B n h
def LpN1 {A1 : Type} (B : (A1 → AH → Prop) → A1 → AH → Prop) : Nat → A1 → AH → Prop
  | 0 => fun _ _ => False
  | n + 1 => fun a1 h => B (LpN1 B n) a1 h
def Lp1 {A1 : Type} (B : (A1 → AH → Prop) → A1 → AH → Prop) (a1 : A1) (h : AH) : Prop := ∃ n, LpN1 B n a1 h
def LpN2 {A1 A2 : Type} (B : (A1 → A2 → AH → Prop) → A1 → A2 → AH → Prop) : Nat → A1 → A2 → AH → Prop
  | 0 => fun _ _ _ => False
  | n + 1 => fun a1 a2 h => B (LpN2 B n) a1 a2 h
def Lp2 {A1 A2 : Type} (B : (A1 → A2 → AH → Prop) → A1 → A2 → AH → Prop) (a1 : A1) (a2 : A2) (h : AH) : Prop := ∃ n, LpN2 B n a1 a2 h
def LpN3 {A1 A2 A3 : Type} (B : (A1 → A2 → A3 → AH → Prop) → A1 → A2 → A3 → AH → Prop) : Nat → A1 → A2 → A3 → AH → Prop
  | 0 => fun _ _ _ _ => False
  | n + 1 => fun a1 a2 a3 h => B (LpN3 B n) a1 a2 a3 h
def Lp3 {A1 A2 A3 : Type} (B : (A1 → A2 → A3 → AH → Prop) → A1 → A2 → A3 → AH → Prop) (a1 : A1) (a2 : A2) (a3 : A3) (h : AH) : Prop := ∃ n, LpN3 B n a1 a2 a3 h
def LpN4 {A1 A2 A3 A4 : Type} (B : (A1 → A2 → A3 → A4 → AH → Prop) → A1 → A2 → A3 → A4 → AH → Prop) : Nat → A1 → A2 → A3 → A4 → AH → Prop
  | 0 => fun _ _ _ _ _ => False
  | n + 1 => fun a1 a2 a3 a4 h => B (LpN4 B n) a1 a2 a3 a4 h
def Lp4 {A1 A2 A3 A4 : Type} (B : (A1 → A2 → A3 → A4 → AH → Prop) → A1 → A2 → A3 → A4 → AH → Prop) (a1 : A1) (a2 : A2) (a3 : A3) (a4 : A4) (h : AH) : Prop := ∃ n, LpN4 B n a1 a2 a3 a4 h
def LpN5 {A1 A2 A3 A4 A5 : Type} (B : (A1 → A2 → A3 → A4 → A5 → AH → Prop) → A1 → A2 → A3 → A4 → A5 → AH → Prop) : Nat → A1 → A2 → A3 → A4 → A5 → AH → Prop
  | 0 => fun _ _ _ _ _ _ => False
  | n + 1 => fun a1 a2 a3 a4 a5 h => B (LpN5 B n) a1 a2 a3 a4 a5 h
def Lp5 {A1 A2 A3 A4 A5 : Type} (B : (A1 → A2 → A3 → A4 → A5 → AH → Prop) → A1 → A2 → A3 → A4 → A5 → AH → Prop) (a1 : A1) (a2 : A2) (a3 : A3) (a4 : A4) (a5 : A5) (h : AH) : Prop := ∃ n, LpN5 B n a1 a2 a3 a4 a5 h
/-! what is owed of a method -/
def nwW : Cond → Bool
  | .fieldLinkNest .. => true
  | .methodLinkNest .. => true
  | .castable .. => true
  | .declares .. => true
  | .arrayOver (.object _) => true
  | _ => false
def NWU (U : State) : Prop := ∀ w ∈ lw_tbl, nwW w = true → va_Nw w U
theorem NWU.warm {s U : State} (hW : s.WarmedH U.vm) (h : NWU s) : NWU U := by
  intro w hw hn
  have h1 := h w hw hn
  cases w with
  | fieldLinkNest => exact va_Nw.warmF hW h1
  | methodLinkNest => exact va_Nw.warmM hW h1
  | castable => exact va_Nw.warmC hW h1
  | declares => exact va_Nw.warmD hW h1
  | arrayOver t =>
    cases t with
    | object C => exact va_AO.moved hW.alike h1
    | _ => cases hn
  | _ => cases hn
def ncl : List (String × String) := [(RX16, RX11), (RX17, RX11), (RX18, RX11), (RX19, RX11), (RX12, RX15), (RX13, RX15), (RX14, RX15)]
def NCU (U : State) : Prop := ∀ q ∈ ncl, va_Nc q.1 q.2 U
theorem NCU.warm {s U : State} (hW : s.vm.Alike U.vm) (h : NCU s) : NCU U := by
  intro q hq
  obtain ⟨c, t, h1, h2, h3⟩ := h q hq
  exact ⟨c, t, by rw [hW.findClass]; exact h1, by rw [hW.findClass]; exact h2, by rw [hW.assignable]; exact h3⟩
