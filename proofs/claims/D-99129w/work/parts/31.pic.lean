set_option maxRecDepth 100000
/-! ===== loops ===== -/
theorem Lp0_for {B : (AH → Prop) → AH → Prop} (n : Nat) (I : Nat → AH → Prop) (hs : ∀ (i : Nat) (h : AH) (L : AH → Prop), i < n → I i h → (∀ h', I (i + 1) h' → L h') → B L h) (hx : ∀ (h : AH) (L : AH → Prop), I n h → B L h) {h : AH} (h0 : I 0 h) : Lp0 B h := by
  have : ∀ k i h, i ≤ n → n + 1 ≤ i + k → I i h → LpN0 B k h := by
    intro k
    induction k with
    | zero => intro i h h1 h2; omega
    | succ k ih =>
      intro i h h1 h2 hI
      by_cases hi : i = n
      · subst hi; exact hx h _ hI
      · exact hs i h _ (by omega) hI (fun h' h'' => ih (i + 1) h' (by omega) (by omega) h'')
  exact ⟨n + 1, this (n + 1) 0 h (by omega) (by omega) h0⟩
theorem Lp1_for {A1 : Type} {B : (A1 → AH → Prop) → A1 → AH → Prop} (n : Nat) (I : Nat → A1 → AH → Prop) (hs : ∀ (i : Nat) (a1 : A1) (h : AH) (L : A1 → AH → Prop), i < n → I i a1 h → (∀ b1 h', I (i + 1) b1 h' → L b1 h') → B L a1 h) (hx : ∀ (a1 : A1) (h : AH) (L : A1 → AH → Prop), I n a1 h → B L a1 h) {a1 : A1} {h : AH} (h0 : I 0 a1 h) : Lp1 B a1 h := by
  have : ∀ k i a1 h, i ≤ n → n + 1 ≤ i + k → I i a1 h → LpN1 B k a1 h := by
    intro k
    induction k with
    | zero => intro i a1 h h1 h2; omega
    | succ k ih =>
      intro i a1 h h1 h2 hI
      by_cases hi : i = n
      · subst hi; exact hx a1 h _ hI
      · exact hs i a1 h _ (by omega) hI (fun b1 h' h'' => ih (i + 1) b1 h' (by omega) (by omega) h'')
  exact ⟨n + 1, this (n + 1) 0 a1 h (by omega) (by omega) h0⟩
theorem Lp2_for {A1 A2 : Type} {B : (A1 → A2 → AH → Prop) → A1 → A2 → AH → Prop} (n : Nat) (I : Nat → A1 → A2 → AH → Prop) (hs : ∀ (i : Nat) (a1 : A1) (a2 : A2) (h : AH) (L : A1 → A2 → AH → Prop), i < n → I i a1 a2 h → (∀ b1 b2 h', I (i + 1) b1 b2 h' → L b1 b2 h') → B L a1 a2 h) (hx : ∀ (a1 : A1) (a2 : A2) (h : AH) (L : A1 → A2 → AH → Prop), I n a1 a2 h → B L a1 a2 h) {a1 : A1} {a2 : A2} {h : AH} (h0 : I 0 a1 a2 h) : Lp2 B a1 a2 h := by
  have : ∀ k i a1 a2 h, i ≤ n → n + 1 ≤ i + k → I i a1 a2 h → LpN2 B k a1 a2 h := by
    intro k
    induction k with
    | zero => intro i a1 a2 h h1 h2; omega
    | succ k ih =>
      intro i a1 a2 h h1 h2 hI
      by_cases hi : i = n
      · subst hi; exact hx a1 a2 h _ hI
      · exact hs i a1 a2 h _ (by omega) hI (fun b1 b2 h' h'' => ih (i + 1) b1 b2 h' (by omega) (by omega) h'')
  exact ⟨n + 1, this (n + 1) 0 a1 a2 h (by omega) (by omega) h0⟩
theorem Lp3_for {A1 A2 A3 : Type} {B : (A1 → A2 → A3 → AH → Prop) → A1 → A2 → A3 → AH → Prop} (n : Nat) (I : Nat → A1 → A2 → A3 → AH → Prop) (hs : ∀ (i : Nat) (a1 : A1) (a2 : A2) (a3 : A3) (h : AH) (L : A1 → A2 → A3 → AH → Prop), i < n → I i a1 a2 a3 h → (∀ b1 b2 b3 h', I (i + 1) b1 b2 b3 h' → L b1 b2 b3 h') → B L a1 a2 a3 h) (hx : ∀ (a1 : A1) (a2 : A2) (a3 : A3) (h : AH) (L : A1 → A2 → A3 → AH → Prop), I n a1 a2 a3 h → B L a1 a2 a3 h) {a1 : A1} {a2 : A2} {a3 : A3} {h : AH} (h0 : I 0 a1 a2 a3 h) : Lp3 B a1 a2 a3 h := by
  have : ∀ k i a1 a2 a3 h, i ≤ n → n + 1 ≤ i + k → I i a1 a2 a3 h → LpN3 B k a1 a2 a3 h := by
    intro k
    induction k with
    | zero => intro i a1 a2 a3 h h1 h2; omega
    | succ k ih =>
      intro i a1 a2 a3 h h1 h2 hI
      by_cases hi : i = n
      · subst hi; exact hx a1 a2 a3 h _ hI
      · exact hs i a1 a2 a3 h _ (by omega) hI (fun b1 b2 b3 h' h'' => ih (i + 1) b1 b2 b3 h' (by omega) (by omega) h'')
  exact ⟨n + 1, this (n + 1) 0 a1 a2 a3 h (by omega) (by omega) h0⟩
theorem Lp1_m {A1 : Type} {B : (A1 → AH → Prop) → A1 → AH → Prop} (I : A1 → AH → Prop) (μ : A1 → AH → Nat) (hs : ∀ (a1 : A1) (h : AH) (L : A1 → AH → Prop), I a1 h → (∀ b1 h', I b1 h' → μ b1 h' < μ a1 h → L b1 h') → B L a1 h) {a1 : A1} {h : AH} (h0 : I a1 h) : Lp1 B a1 h := by
  have : ∀ k a1 h, μ a1 h < k → I a1 h → LpN1 B k a1 h := by
    intro k
    induction k with
    | zero => intro a1 h h1; omega
    | succ k ih => exact fun a1 h h1 hI => hs a1 h _ hI (fun b1 h' hI' hm => ih b1 h' (by omega) hI')
  exact ⟨_, this (μ a1 h + 1) a1 h (by omega) h0⟩
theorem Lp2_m {A1 A2 : Type} {B : (A1 → A2 → AH → Prop) → A1 → A2 → AH → Prop} (I : A1 → A2 → AH → Prop) (μ : A1 → A2 → AH → Nat) (hs : ∀ (a1 : A1) (a2 : A2) (h : AH) (L : A1 → A2 → AH → Prop), I a1 a2 h → (∀ b1 b2 h', I b1 b2 h' → μ b1 b2 h' < μ a1 a2 h → L b1 b2 h') → B L a1 a2 h) {a1 : A1} {a2 : A2} {h : AH} (h0 : I a1 a2 h) : Lp2 B a1 a2 h := by
  have : ∀ k a1 a2 h, μ a1 a2 h < k → I a1 a2 h → LpN2 B k a1 a2 h := by
    intro k
    induction k with
    | zero => intro a1 a2 h h1; omega
    | succ k ih => exact fun a1 a2 h h1 hI => hs a1 a2 h _ hI (fun b1 b2 h' hI' hm => ih b1 b2 h' (by omega) hI')
  exact ⟨_, this (μ a1 a2 h + 1) a1 a2 h (by omega) h0⟩
/-! ===== a county, in figures: C.1 f i; who is told to have an umbrella: C.2 u ===== -/
abbrev PC : Type := (Nat → Nat → Nat) × (Nat → Int32)
def c_np (C : PC) : Nat := C.1 0 0
def c_nu (C : PC) : Nat := C.1 0 1
def c_nl (C : PC) : Nat := C.1 0 2
def c_nc (C : PC) : Nat := C.1 0 3
def c_lapse (C : PC) : Nat := C.1 0 4
def c_gust (C : PC) : Nat := C.1 0 5
def c_rains (C : PC) : Nat := C.1 0 6
def c_sort (C : PC) (p : Nat) : Nat := C.1 1 p
def c_kind (C : PC) (u : Nat) : Nat := C.1 2 u
def c_lands (C : PC) (u : Nat) : Nat := C.1 3 u
def c_ribs (C : PC) (u : Nat) : Nat := C.1 4 u
def c_what (C : PC) (k : Nat) : Nat := C.1 5 k
def c_one (C : PC) (k : Nat) : Nat := C.1 6 k
def c_oth (C : PC) (k : Nat) : Nat := C.1 7 k
def c_day (C : PC) (k : Nat) : Nat := C.1 8 k
def c_clp (C : PC) (k : Nat) : Nat := C.1 9 k
def c_clu (C : PC) (k : Nat) : Nat := C.1 10 k
def c_cld (C : PC) (k : Nat) : Nat := C.1 11 k
def c_wth (C : PC) (u : Nat) : Int32 := C.2 u
/-- nobody, or one of n -/
def who (n : Nat) (x : Int32) : Prop := x = (-2) ∨ ∃ p, p < n ∧ x = nI p
def okC (C : PC) : Prop := 1 ≤ c_np C ∧ c_np C ≤ 6 ∧ 1 ≤ c_nu C ∧ c_nu C ≤ 5 ∧ c_nl C ≤ 16 ∧ c_nc C ≤ 6 ∧ 1 ≤ c_lapse C ∧ c_lapse C ≤ 30 ∧ c_gust C ≤ 99 ∧ c_rains C ≤ 99 ∧ (∀ p, c_sort C p < 3) ∧ (∀ u, c_kind C u < 4) ∧ (∀ u, c_lands C u ≤ 99) ∧ (∀ u, 4 ≤ c_ribs C u ∧ c_ribs C u ≤ 12) ∧ (∀ k, c_what C k < 4) ∧ (∀ k, c_one C k < c_nu C) ∧ (∀ k, c_oth C k < 6) ∧ (∀ k, c_what C k = 0 → c_oth C k < c_np C) ∧ (∀ k, c_what C k = 2 → c_oth C k < c_nu C) ∧ (∀ k, c_day C k ≤ 40) ∧ (∀ j k, j ≤ k → k < c_nl C → c_day C j ≤ c_day C k) ∧ (∀ k, c_clp C k < c_np C) ∧ (∀ k, c_clu C k < c_nu C) ∧ (∀ k, c_cld C k ≤ 40) ∧ ∀ u, who (c_np C) (c_wth C u)
/-! ===== the component's county in the heap ===== -/
def evF (C : PC) (k : Nat) : List Value := if c_what C k = 0 then [.int (nI (c_one C k)), .int (nI (c_day C k)), .int (nI (c_oth C k))] else if c_what C k = 1 then [.int (nI (c_one C k)), .int (nI (c_day C k))] else if c_what C k = 2 then [.int (nI (c_one C k)), .int (nI (c_day C k)), .int (nI (c_oth C k))] else [.int (-2), .int (nI (c_day C k))]
def cwF (C : PC) (pa ua la ca : Nat) : List Value := [va_rf (some pa), va_rf (some ua), va_rf (some la), va_rf (some ca), .int (nI (c_lapse C)), .int (nI (c_gust C)), .int (nI (c_rains C)), .int (nI (c_np C)), .int (nI (c_nu C)), .int (nI (c_nl C)), .int (nI (c_nc C))]
def cwA (h : AH) (lo a t n m : Nat) (ad : Nat → Nat) (F : Nat → Nat × List Value) : Prop := lo ≤ a ∧ ∃ xs : List (Option Nat), h.1 a = some (.inl (t, .inr (.inr xs))) ∧ xs.length = n ∧ ∀ i, i < m → xs.getD i none = some (ad i) ∧ lo ≤ ad i ∧ h.1 (ad i) = some (.inr (F i))
/-- the places of a county: arrays A.1 j, objects A.2 j i, names A.2 4 p, A.2 5 u -/
abbrev PA : Type := (Nat → Nat) × (Nat → Nat → Nat) × (Nat → Nat → Option Nat)
def CW (lo : Nat) (h : AH) (a : Nat) (C : PC) (A : PA) : Prop := lo ≤ a ∧ h.1 a = some (.inr (9, cwF C (A.1 0) (A.1 1) (A.1 2) (A.1 3))) ∧
  cwA h lo (A.1 0) 5 6 (c_np C) (A.2.1 0) (fun p => (12 + c_sort C p, [va_rf (A.2.2 0 p), .int (nI p)])) ∧
  cwA h lo (A.1 1) 6 5 (c_nu C) (A.2.1 1) (fun u => (16 + c_kind C u, [va_rf (A.2.2 1 u), .int (nI u), .int (nI (c_lands C u)), .int (nI (c_ribs C u)), .int (c_wth C u)])) ∧
  cwA h lo (A.1 2) 7 16 (c_nl C) (A.2.1 2) (fun k => (21 + c_what C k, evF C k)) ∧
  cwA h lo (A.1 3) 8 6 (c_nc C) (A.2.1 3) (fun k => (25, [.int (nI (c_clp C k)), .int (nI (c_clu C k)), .int (nI (c_cld C k))]))
theorem cwA.fr {h h' : AH} {lo a t n m : Nat} {ad : Nat → Nat} {F : Nat → Nat × List Value} (H : cwA h lo a t n m ad F) (hf : ∀ b, lo ≤ b → h'.1 b = h.1 b) : cwA h' lo a t n m ad F := by
  obtain ⟨h1, xs, h2, h3, h4⟩ := H
  refine ⟨h1, xs, (hf a h1).trans h2, h3, fun i hi => ?_⟩
  obtain ⟨e1, e2, e3⟩ := h4 i hi
  exact ⟨e1, e2, (hf _ e2).trans e3⟩
theorem CW.fr {lo : Nat} {h h' : AH} {a : Nat} {C : PC} {A : PA} (H : CW lo h a C A) (hf : ∀ b, lo ≤ b → h'.1 b = h.1 b) : CW lo h' a C A := by
  obtain ⟨h1, h2, h3, h4, h5, h6⟩ := H
  exact ⟨h1, (hf a h1).trans h2, h3.fr hf, h4.fr hf, h5.fr hf, h6.fr hf⟩
theorem gI_v {h : AH} {a ci : Nat} {fs : List Value} (hc : h.1 a = some (.inr (ci, fs))) {cis : List Nat} (hm : ci ∈ cis) {k : Nat} {x : Int32} (hk : fs[k]? = some (.int x)) (K : Int32 → Prop) : gI h (some a) cis k K = K x := by
  rw [gI_s, hc]
  simp [obc, hk, vIc, hm]
theorem gR_v {h : AH} {a ci : Nat} {fs : List Value} (hc : h.1 a = some (.inr (ci, fs))) {cis : List Nat} (hm : ci ∈ cis) {k : Nat} {x : Option Nat} (hk : fs[k]? = some (va_rf x)) (K : Option Nat → Prop) : gR h (some a) cis k K = K x := by
  rw [gR_s, hc]
  simp [obc, hk, vRc_rf, hm]
theorem aI_v {h : AH} {a t : Nat} {xs : List Int32} (hc : h.1 a = some (.inl (t, .inl xs))) {u : Nat} (hu : u < xs.length) (hs : xs.length < 2 ^ 31) (K : Int32 → Prop) : aI h (some a) t (nI u) K = K (xs.getD u 0) := by
  rw [aI_s, hc]
  simp [aic, vp_in_nI hu hs, nI_clamp (Nat.lt_trans hu hs)]
theorem aR_v {h : AH} {a t : Nat} {xs : List (Option Nat)} (hc : h.1 a = some (.inl (t, .inr (.inr xs)))) {u : Nat} (hu : u < xs.length) (hs : xs.length < 2 ^ 31) (K : Option Nat → Prop) : aR h (some a) t (nI u) K = K (xs.getD u none) := by
  rw [aR_s, hc]
  simp [arc, vp_in_nI hu hs, nI_clamp (Nat.lt_trans hu hs)]
theorem isO_v {h : AH} {a ci : Nat} {fs : List Value} (hc : h.1 a = some (.inr (ci, fs))) (cj : Nat) : isO h (some a) cj = (ci = cj) := by
  rw [isO_s, hc]
  rfl
theorem sI_v {g : GT} {h : AH} {a t : Nat} {xs : List Int32} (ha : g.1 ≤ a) (hc : h.1 a = some (.inl (t, .inl xs))) {u : Nat} (hu : u < xs.length) (hs : xs.length < 2 ^ 31) (x : Int32) (K : AH → Prop) : sI g h (some a) t (nI u) x K = K (updH h a (.inl (t, .inl (xs.set u x)))) := by
  rw [sI_s, hc]
  simp [aic, vp_in_nI hu hs, nI_clamp (Nat.lt_trans hu hs), ha]
theorem pV_v {g : GT} {h : AH} {a ci : Nat} {fs : List Value} (ha : g.1 ≤ a) (hc : h.1 a = some (.inr (ci, fs))) {cis : List Nat} (hm : ci ∈ cis) {k : Nat} (hk : k < fs.length) (x : Value) (K : AH → Prop) : pV g h (some a) cis k x K = K (updH h a (.inr (ci, fs.set k x))) := by
  rw [pV_s, hc]
  simp [obc, hk, hm, ha]
/-- what reading a county's cells gives -/
theorem CW.v {lo : Nat} {h : AH} {a : Nat} {C : PC} {A : PA} (H : CW lo h a C A) (ok : okC C) :
    (∀ K, gR h (some a) [9] 0 K = K (some (A.1 0))) ∧ (∀ K, gR h (some a) [9] 1 K = K (some (A.1 1))) ∧ (∀ K, gR h (some a) [9] 2 K = K (some (A.1 2))) ∧ (∀ K, gR h (some a) [9] 3 K = K (some (A.1 3))) ∧
    (∀ K, gI h (some a) [9] 4 K = K (nI (c_lapse C))) ∧ (∀ K, gI h (some a) [9] 5 K = K (nI (c_gust C))) ∧ (∀ K, gI h (some a) [9] 6 K = K (nI (c_rains C))) ∧ (∀ K, gI h (some a) [9] 7 K = K (nI (c_np C))) ∧ (∀ K, gI h (some a) [9] 8 K = K (nI (c_nu C))) ∧ (∀ K, gI h (some a) [9] 9 K = K (nI (c_nl C))) ∧ (∀ K, gI h (some a) [9] 10 K = K (nI (c_nc C))) ∧
    (∀ p K, p < c_np C → aR h (some (A.1 0)) 5 (nI p) K = K (some (A.2.1 0 p))) ∧ (∀ u K, u < c_nu C → aR h (some (A.1 1)) 6 (nI u) K = K (some (A.2.1 1 u))) ∧ (∀ k K, k < c_nl C → aR h (some (A.1 2)) 7 (nI k) K = K (some (A.2.1 2 k))) ∧ (∀ k K, k < c_nc C → aR h (some (A.1 3)) 8 (nI k) K = K (some (A.2.1 3 k))) ∧
    (∀ p ci, p < c_np C → isO h (some (A.2.1 0 p)) ci = (12 + c_sort C p = ci)) ∧ (∀ u ci, u < c_nu C → isO h (some (A.2.1 1 u)) ci = (16 + c_kind C u = ci)) ∧ (∀ k ci, k < c_nl C → isO h (some (A.2.1 2 k)) ci = (21 + c_what C k = ci)) ∧
    (∀ u K, u < c_nu C → gI h (some (A.2.1 1 u)) [16, 17, 18, 19] 2 K = K (nI (c_lands C u))) ∧ (∀ u K, u < c_nu C → gI h (some (A.2.1 1 u)) [16, 17, 18, 19] 3 K = K (nI (c_ribs C u))) ∧ (∀ u K, u < c_nu C → gI h (some (A.2.1 1 u)) [16, 17, 18, 19] 4 K = K (c_wth C u)) ∧
    (∀ k K, k < c_nc C → gI h (some (A.2.1 3 k)) [25] 0 K = K (nI (c_clp C k))) ∧ (∀ k K, k < c_nc C → gI h (some (A.2.1 3 k)) [25] 1 K = K (nI (c_clu C k))) ∧ (∀ k K, k < c_nc C → gI h (some (A.2.1 3 k)) [25] 2 K = K (nI (c_cld C k))) := by
  obtain ⟨-, h2, ⟨-, ps, p1, p2, p3⟩, ⟨-, us, u1, u2, u3⟩, ⟨-, ks, k1, k2, k3⟩, ⟨-, cs, c1, c2, c3⟩⟩ := H
  obtain ⟨n1, n2, n3, n4, n5, n6, -, -, -, -, s1, s2, -⟩ := ok
  have m9 : 9 ∈ [9] := by decide
  have mu : ∀ u, 16 + c_kind C u ∈ [16, 17, 18, 19] := by
    intro u
    have := s2 u
    have : c_kind C u = 0 ∨ c_kind C u = 1 ∨ c_kind C u = 2 ∨ c_kind C u = 3 := by omega
    rcases this with e | e | e | e <;> rw [e] <;> decide
  have m25 : 25 ∈ [25] := by decide
  refine ⟨fun K => gR_v h2 m9 rfl K, fun K => gR_v h2 m9 rfl K, fun K => gR_v h2 m9 rfl K, fun K => gR_v h2 m9 rfl K, fun K => gI_v h2 m9 rfl K, fun K => gI_v h2 m9 rfl K, fun K => gI_v h2 m9 rfl K, fun K => gI_v h2 m9 rfl K, fun K => gI_v h2 m9 rfl K, fun K => gI_v h2 m9 rfl K, fun K => gI_v h2 m9 rfl K,
    fun p K hp => ?_, fun u K hu => ?_, fun k K hk => ?_, fun k K hk => ?_, fun p ci hp => ?_, fun u ci hu => ?_, fun k ci hk => ?_, fun u K hu => ?_, fun u K hu => ?_, fun u K hu => ?_, fun k K hk => ?_, fun k K hk => ?_, fun k K hk => ?_⟩
  · rw [aR_v p1 (by omega) (by omega), (p3 p hp).1]
  · rw [aR_v u1 (by omega) (by omega), (u3 u hu).1]
  · rw [aR_v k1 (by omega) (by omega), (k3 k hk).1]
  · rw [aR_v c1 (by omega) (by omega), (c3 k hk).1]
  · rw [isO_v (p3 p hp).2.2]
  · rw [isO_v (u3 u hu).2.2]
  · rw [isO_v (k3 k hk).2.2]
  · exact gI_v (u3 u hu).2.2 (mu u) rfl K
  · exact gI_v (u3 u hu).2.2 (mu u) rfl K
  · exact gI_v (u3 u hu).2.2 (mu u) rfl K
  · exact gI_v (c3 k hk).2.2 m25 rfl K
  · exact gI_v (c3 k hk).2.2 m25 rfl K
  · exact gI_v (c3 k hk).2.2 m25 rfl K
/-! ===== a hall ===== -/
def hallAt (h : AH) (a : Nat) (c : Option Nat) (d : Int32) (ho ti : List Int32) : Prop := h.1 a = some (.inr (4, [va_rf (some (a + 1)), va_rf (some (a + 2)), va_rf c, .int d])) ∧ h.1 (a + 1) = some (.inl (0, .inl ho)) ∧ h.1 (a + 2) = some (.inl (0, .inl ti)) ∧ ho.length = 5 ∧ ti.length = 5
/-- nothing but the places S has changed, nothing is new -/
def Fr (S : Nat → Prop) (h h' : AH) : Prop := (∀ b, ¬ S b → h'.1 b = h.1 b) ∧ h'.2 = h.2
theorem Fr.rfl {S : Nat → Prop} {h : AH} : Fr S h h := ⟨fun _ _ => Eq.refl _, Eq.refl _⟩
theorem Fr.trans {S : Nat → Prop} {h h1 h2 : AH} (a : Fr S h h1) (b : Fr S h1 h2) : Fr S h h2 := ⟨fun q hq => (b.1 q hq).trans (a.1 q hq), b.2.trans a.2⟩
theorem Fr.mono {S T : Nat → Prop} {h h1 : AH} (a : Fr S h h1) (hs : ∀ q, S q → T q) : Fr T h h1 := ⟨fun q hq => a.1 q (fun z => hq (hs q z)), a.2⟩
theorem Fr.upd {S : Nat → Prop} {h : AH} {a : Nat} {e : AC} (ha : S a) : Fr S h (updH h a e) := ⟨fun q hq => by rw [upd_s, if_neg (fun z : q = a => hq (by rw [z]; exact ha))], Eq.refl _⟩
def hallS (a : Nat) : Nat → Prop := fun q => q = a ∨ q = a + 1 ∨ q = a + 2
theorem hallAt.fr {h h' : AH} {a : Nat} {c : Option Nat} {d : Int32} {ho ti : List Int32} {S : Nat → Prop} (H : hallAt h a c d ho ti) (hf : Fr S h h') (h0 : ¬ S a) (h1 : ¬ S (a + 1)) (h2 : ¬ S (a + 2)) : hallAt h' a c d ho ti := ⟨(hf.1 _ h0).trans H.1, (hf.1 _ h1).trans H.2.1, (hf.1 _ h2).trans H.2.2.1, H.2.2.2⟩
/-! pure -/
def pu_has (ho : List Int32) (p : Int32) : Nat → Int32
  | 0 => 0
  | u + 1 => pu_has ho p u ||| (if ho.getD u 0 = p then 1 <<< (nI u &&& 31) else 0)
def pu_lands (C : PC) (ti : List Int32) (p : Int32) : Nat → Int32
  | 0 => 0
  | u + 1 => pu_lands C ti p u + (if ti.getD u 0 = p then nI (c_lands C u) else 0)
theorem nle_s {a b : Nat} (h : a < b) (hb : b < 2 ^ 31) : (nI b ≤ nI a) = False := eq_false (nI_ge h hb)
theorem hallAt.v {h : AH} {a : Nat} {c : Option Nat} {d : Int32} {ho ti : List Int32} (H : hallAt h a c d ho ti) : (∀ K, gR h (some a) [4] 0 K = K (some (a + 1))) ∧ (∀ K, gR h (some a) [4] 1 K = K (some (a + 2))) ∧ (∀ K, gR h (some a) [4] 2 K = K c) ∧ (∀ K, gI h (some a) [4] 3 K = K d) ∧ (∀ u K, u < 5 → aI h (some (a + 1)) 0 (nI u) K = K (ho.getD u 0)) ∧ (∀ u K, u < 5 → aI h (some (a + 2)) 0 (nI u) K = K (ti.getD u 0)) ∧ (isO h (some a) 4 = True) := by
  obtain ⟨h1, h2, h3, l1, l2⟩ := H
  have m : 4 ∈ [4] := by decide
  exact ⟨fun K => gR_v h1 m rfl K, fun K => gR_v h1 m rfl K, fun K => gR_v h1 m rfl K, fun K => gI_v h1 m rfl K, fun u K hu => aI_v h2 (by omega) (by omega) K, fun u K hu => aI_v h3 (by omega) (by omega) K, by rw [isO_v h1]; exact eq_self 4⟩
theorem bt1 {c A B : Prop} (h : c) : ((c → A) ∧ (¬ c → B)) = A := propext ⟨fun q => q.1 h, fun q => ⟨fun _ => q, fun n => absurd h n⟩⟩
theorem bt2 {c A B : Prop} (h : ¬ c) : ((c → A) ∧ (¬ c → B)) = B := propext ⟨fun q => q.2 h, fun q => ⟨fun n => absurd n h, fun _ => q⟩⟩
theorem bt3 {c A B : Prop} (h : c) : ((¬ c → A) ∧ (c → B)) = B := propext ⟨fun q => q.2 h, fun q => ⟨fun n => absurd h n, fun _ => q⟩⟩
theorem bt4 {c A B : Prop} (h : ¬ c) : ((¬ c → A) ∧ (c → B)) = A := propext ⟨fun q => q.1 h, fun q => ⟨fun _ => q, fun n => absurd n h⟩⟩
theorem s_has {g : GT} {h : AH} {a c lo : Nat} {d p : Int32} {ho ti : List Int32} {C : PC} {A : PA} {K : Int32 → AH → Prop} {E : Nat → AH → Prop} (hH : hallAt h a (some c) d ho ti) (hC : CW lo h c C A) (ok : okC C) (hK : K (pu_has ho p (c_nu C)) h) : w_X4_has g (some a) p K E h := by
  have hv := hH.v
  have cv := hC.v ok
  have hnu : c_nu C ≤ 5 := ok.2.2.2.1
  refine Lp2_for (c_nu C) (fun i a1 a2 h' => h' = h ∧ a1 = pu_has ho p i ∧ a2 = nI i) ?_ ?_ ⟨rfl, rfl, rfl⟩
  · rintro i _ _ _ L hi ⟨rfl, rfl, rfl⟩ hL
    have e1 := nle_s (a := i) (b := c_nu C) hi (by omega)
    have hi5 : i < 5 := by omega
    by_cases hp : ho.getD i 0 = p
    · simp only [↓w_X4_has_L4, ↓w_X4_has_J33, ↓hv, ↓cv, ↓bt1, ↓bt2, ↓bt3, ↓bt4, ↓nmI_s, e1, hi5, hp, not_false_eq_true, not_true_eq_false]
      exact hL _ _ _ ⟨rfl, by simp only [pu_has, hp, if_true], nI_1 i⟩
    · simp only [↓w_X4_has_L4, ↓w_X4_has_J33, ↓hv, ↓cv, ↓bt1, ↓bt2, ↓bt3, ↓bt4, ↓nmI_s, e1, hi5, hp, not_false_eq_true, not_true_eq_false]
      exact hL _ _ _ ⟨rfl, by simp only [pu_has, hp, if_false], nI_1 i⟩
  · rintro _ _ _ L ⟨rfl, rfl, rfl⟩
    have e1 : nI (c_nu C) ≤ nI (c_nu C) := nI_le (Nat.le_refl _) (by omega)
    simp only [↓w_X4_has_L4, ↓hv, ↓cv, ↓bt1, ↓bt2, e1, hK]
