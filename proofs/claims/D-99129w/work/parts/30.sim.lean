set_option maxRecDepth 100000
/-! ===== the primitives in a form that simp runs ===== -/
def obc (c : Option AC) (K : Nat → List Value → Prop) : Prop := match c with
  | some (.inr o) => K o.1 o.2
  | _ => False
def aic (c : Option AC) (K : Nat → List Int32 → Prop) : Prop := match c with
  | some (.inl (t, .inl xs)) => K t xs
  | _ => False
def ajc (c : Option AC) (K : Nat → List Int64 → Prop) : Prop := match c with
  | some (.inl (t, .inr (.inl xs))) => K t xs
  | _ => False
def arc (c : Option AC) (K : Nat → List (Option Nat) → Prop) : Prop := match c with
  | some (.inl (t, .inr (.inr xs))) => K t xs
  | _ => False
def alc (c : Option AC) (K : Nat → AArr → Prop) : Prop := match c with
  | some (.inl (t, x)) => K t x
  | _ => False
def vIc (v : Option Value) (K : Int32 → Prop) : Prop := match v with
  | some (.int x) => K x
  | _ => False
def vJc (v : Option Value) (K : Int64 → Prop) : Prop := match v with
  | some (.long x) => K x
  | _ => False
def vRc (v : Option Value) (K : Option Nat → Prop) : Prop := match v with
  | some (.ref a) => K (some a)
  | some .null => K none
  | _ => False
theorem vRc_rf (r : Option Nat) (K : Option Nat → Prop) : vRc (some (va_rf r)) K = K r := by cases r <;> rfl
theorem rf_inj {a b : Option Nat} (h : va_rf a = va_rf b) : a = b := by
  cases a <;> cases b
  · rfl
  · cases h
  · cases h
  · cases h; rfl
theorem gI_s (h : AH) (a : Nat) (cis : List Nat) (k : Nat) (K : Int32 → Prop) : gI h (some a) cis k K = obc (h.1 a) (fun ci fs => ci ∈ cis ∧ vIc fs[k]? K) := by
  apply propext
  constructor
  · rintro ⟨a', ci, fs, x, h1, h2, h3, h4, h5⟩
    cases h1
    rw [h2]
    exact ⟨h3, by rw [h4]; exact h5⟩
  · intro q
    unfold obc at q
    split at q
    · rename_i o e
      obtain ⟨q1, q2⟩ := q
      unfold vIc at q2
      split at q2
      · rename_i x e2
        exact ⟨a, o.1, o.2, x, rfl, e, q1, e2, q2⟩
      · exact q2.elim
    · exact q.elim
theorem gJ_s (h : AH) (a : Nat) (cis : List Nat) (k : Nat) (K : Int64 → Prop) : gJ h (some a) cis k K = obc (h.1 a) (fun ci fs => ci ∈ cis ∧ vJc fs[k]? K) := by
  apply propext
  constructor
  · rintro ⟨a', ci, fs, x, h1, h2, h3, h4, h5⟩
    cases h1
    rw [h2]
    exact ⟨h3, by rw [h4]; exact h5⟩
  · intro q
    unfold obc at q
    split at q
    · rename_i o e
      obtain ⟨q1, q2⟩ := q
      unfold vJc at q2
      split at q2
      · rename_i x e2
        exact ⟨a, o.1, o.2, x, rfl, e, q1, e2, q2⟩
      · exact q2.elim
    · exact q.elim
theorem gR_s (h : AH) (a : Nat) (cis : List Nat) (k : Nat) (K : Option Nat → Prop) : gR h (some a) cis k K = obc (h.1 a) (fun ci fs => ci ∈ cis ∧ vRc fs[k]? K) := by
  apply propext
  constructor
  · rintro ⟨a', ci, fs, x, h1, h2, h3, h4, h5⟩
    cases h1
    rw [h2]
    refine ⟨h3, ?_⟩
    dsimp only
    rw [h4, vRc_rf]
    exact h5
  · intro q
    unfold obc at q
    split at q
    · rename_i o e
      obtain ⟨q1, q2⟩ := q
      unfold vRc at q2
      split at q2
      · rename_i x e2
        exact ⟨a, o.1, o.2, some x, rfl, e, q1, e2, q2⟩
      · rename_i e2
        exact ⟨a, o.1, o.2, none, rfl, e, q1, e2, q2⟩
      · exact q2.elim
    · exact q.elim
theorem pV_s (g : GT) (h : AH) (a : Nat) (cis : List Nat) (k : Nat) (x : Value) (K : AH → Prop) : pV g h (some a) cis k x K = (g.1 ≤ a ∧ obc (h.1 a) (fun ci fs => ci ∈ cis ∧ k < fs.length ∧ K (updH h a (.inr (ci, fs.set k x))))) := by
  apply propext
  constructor
  · rintro ⟨a', ci, fs, h1, h0, h2, h3, h4, h5⟩
    cases h1
    rw [h2]
    exact ⟨h0, h3, h4, h5⟩
  · rintro ⟨h0, q⟩
    unfold obc at q
    split at q
    · rename_i o e
      obtain ⟨q1, q2, q3⟩ := q
      exact ⟨a, o.1, o.2, rfl, h0, e, q1, q2, q3⟩
    · exact q.elim
theorem aI_s (h : AH) (a t : Nat) (i : Int32) (K : Int32 → Prop) : aI h (some a) t i K = aic (h.1 a) (fun t' xs => t' = t ∧ vp_in i xs.length ∧ K (xs.getD i.toNatClampNeg 0)) := by
  apply propext
  constructor
  · rintro ⟨a', xs, h1, h2, h3, h4⟩
    cases h1
    rw [h2]
    exact ⟨rfl, h3, h4⟩
  · intro q
    unfold aic at q
    split at q
    · rename_i e
      obtain ⟨rfl, q2, q3⟩ := q
      exact ⟨a, _, rfl, e, q2, q3⟩
    · exact q.elim
theorem aJ_s (h : AH) (a t : Nat) (i : Int32) (K : Int64 → Prop) : aJ h (some a) t i K = ajc (h.1 a) (fun t' xs => t' = t ∧ vp_in i xs.length ∧ K (xs.getD i.toNatClampNeg 0)) := by
  apply propext
  constructor
  · rintro ⟨a', xs, h1, h2, h3, h4⟩
    cases h1
    rw [h2]
    exact ⟨rfl, h3, h4⟩
  · intro q
    unfold ajc at q
    split at q
    · rename_i e
      obtain ⟨rfl, q2, q3⟩ := q
      exact ⟨a, _, rfl, e, q2, q3⟩
    · exact q.elim
theorem aR_s (h : AH) (a t : Nat) (i : Int32) (K : Option Nat → Prop) : aR h (some a) t i K = arc (h.1 a) (fun t' xs => t' = t ∧ vp_in i xs.length ∧ K (xs.getD i.toNatClampNeg none)) := by
  apply propext
  constructor
  · rintro ⟨a', xs, h1, h2, h3, h4⟩
    cases h1
    rw [h2]
    exact ⟨rfl, h3, h4⟩
  · intro q
    unfold arc at q
    split at q
    · rename_i e
      obtain ⟨rfl, q2, q3⟩ := q
      exact ⟨a, _, rfl, e, q2, q3⟩
    · exact q.elim
theorem sI_s (g : GT) (h : AH) (a t : Nat) (i x : Int32) (K : AH → Prop) : sI g h (some a) t i x K = (g.1 ≤ a ∧ aic (h.1 a) (fun t' xs => t' = t ∧ vp_in i xs.length ∧ K (updH h a (.inl (t, .inl (xs.set i.toNatClampNeg x)))))) := by
  apply propext
  constructor
  · rintro ⟨a', xs, h1, h0, h2, h3, h4⟩
    cases h1
    rw [h2]
    exact ⟨h0, rfl, h3, h4⟩
  · rintro ⟨h0, q⟩
    unfold aic at q
    split at q
    · rename_i e
      obtain ⟨rfl, q2, q3⟩ := q
      exact ⟨a, _, rfl, h0, e, q2, q3⟩
    · exact q.elim
theorem sJ_s (g : GT) (h : AH) (a t : Nat) (i : Int32) (x : Int64) (K : AH → Prop) : sJ g h (some a) t i x K = (g.1 ≤ a ∧ ajc (h.1 a) (fun t' xs => t' = t ∧ vp_in i xs.length ∧ K (updH h a (.inl (t, .inr (.inl (xs.set i.toNatClampNeg x))))))) := by
  apply propext
  constructor
  · rintro ⟨a', xs, h1, h0, h2, h3, h4⟩
    cases h1
    rw [h2]
    exact ⟨h0, rfl, h3, h4⟩
  · rintro ⟨h0, q⟩
    unfold ajc at q
    split at q
    · rename_i e
      obtain ⟨rfl, q2, q3⟩ := q
      exact ⟨a, _, rfl, h0, e, q2, q3⟩
    · exact q.elim
theorem sR_s (g : GT) (h : AH) (a b t : Nat) (cis : List Nat) (i : Int32) (K : AH → Prop) : sR g h (some a) t cis i (some b) K = (g.1 ≤ a ∧ obc (h.1 b) (fun ci _ => ci ∈ cis) ∧ arc (h.1 a) (fun t' xs => t' = t ∧ vp_in i xs.length ∧ K (updH h a (.inl (t, .inr (.inr (xs.set i.toNatClampNeg (some b)))))))) := by
  apply propext
  constructor
  · rintro ⟨a', b', ci, fs, xs, h1, h1', h0, h2, h2', h3, h4, h5⟩
    cases h1
    cases h1'
    rw [h2, h2']
    exact ⟨h0, h3, rfl, h4, h5⟩
  · rintro ⟨h0, r, q⟩
    unfold arc at q
    split at q
    · rename_i e
      obtain ⟨rfl, q2, q3⟩ := q
      unfold obc at r
      split at r
      · rename_i o e2
        exact ⟨a, b, o.1, o.2, _, rfl, rfl, h0, e, e2, r, q2, q3⟩
      · exact r.elim
    · exact q.elim
theorem aL_s (h : AH) (a : Nat) (K : Int32 → Prop) : aL h (some a) K = alc (h.1 a) (fun t x => t < 9 ∧ K (nI (arrP x).1)) := by
  apply propext
  constructor
  · rintro ⟨a', t, x, h1, h2, h3, h4⟩
    cases h1
    rw [h2]
    exact ⟨h3, h4⟩
  · intro q
    unfold alc at q
    split at q
    · rename_i e
      obtain ⟨q2, q3⟩ := q
      exact ⟨a, _, _, rfl, e, q2, q3⟩
    · exact q.elim
theorem isO_s (h : AH) (a ci : Nat) : isO h (some a) ci = obc (h.1 a) (fun c _ => c = ci) := by
  apply propext
  constructor
  · rintro ⟨a', fs, h1, h2⟩
    cases h1
    rw [h2]
    exact rfl
  · intro q
    unfold obc at q
    split at q
    · rename_i o e
      subst q
      exact ⟨a, o.2, rfl, e⟩
    · exact q.elim
theorem upd_s (h : AH) (a b : Nat) (e : AC) : (updH h a e).1 b = if b = a then some e else h.1 b := rfl
theorem upd_2 (h : AH) (a : Nat) (e : AC) : (updH h a e).2 = h.2 := rfl
theorem new_s (g : GT) (h : AH) (b : Nat) (e : AC) (n : Nat) : (newH g h e n).1 b = if b = g.1 + h.2.1 then some e else h.1 b := rfl
theorem new_n (g : GT) (h : AH) (e : AC) (n : Nat) : (newH g h e n).2.1 = h.2.1 + 1 := rfl
theorem new_c (g : GT) (h : AH) (e : AC) (n : Nat) : (newH g h e n).2.2 = h.2.2 + n := rfl
theorem obc_s (o : Nat × List Value) (K : Nat → List Value → Prop) : obc (some (.inr o)) K = K o.1 o.2 := rfl
theorem aic_s (t : Nat) (xs : List Int32) (K : Nat → List Int32 → Prop) : aic (some (.inl (t, .inl xs))) K = K t xs := rfl
theorem ajc_s (t : Nat) (xs : List Int64) (K : Nat → List Int64 → Prop) : ajc (some (.inl (t, .inr (.inl xs)))) K = K t xs := rfl
theorem arc_s (t : Nat) (xs : List (Option Nat)) (K : Nat → List (Option Nat) → Prop) : arc (some (.inl (t, .inr (.inr xs)))) K = K t xs := rfl
theorem alc_s (t : Nat) (x : AArr) (K : Nat → AArr → Prop) : alc (some (.inl (t, x))) K = K t x := rfl
theorem vIc_s (x : Int32) (K : Int32 → Prop) : vIc (some (.int x)) K = K x := rfl
theorem vJc_s (x : Int64) (K : Int64 → Prop) : vJc (some (.long x)) K = K x := rfl
theorem nmI_s (x : Int32) (K : Int32 → Prop) : nmI x K = K x := rfl
theorem nmJ_s (x : Int64) (K : Int64 → Prop) : nmJ x K = K x := rfl
theorem nz_0 (P : Prop) : nz .boolean 0 P = P := by unfold nz; simp [narrow]
theorem nz_1 (P : Prop) : nz .boolean 1 P = P := by unfold nz; simp [narrow]
theorem letK_s {α : Type} (K : α → AH → Prop) (F : (α → AH → Prop) → Prop) : letK K F = F K := rfl
theorem imp_tt (P : Prop) : (True → P) = P := by simp
theorem imp_ff (P : Prop) : (False → P) = True := by simp
/-- straight code, run by simp -/
theorem wsp : (∀ h a cis k K, gI h (some a) cis k K = obc (h.1 a) (fun ci fs => ci ∈ cis ∧ vIc fs[k]? K)) ∧ (∀ h a cis k K, gJ h (some a) cis k K = obc (h.1 a) (fun ci fs => ci ∈ cis ∧ vJc fs[k]? K)) ∧ (∀ h a cis k K, gR h (some a) cis k K = obc (h.1 a) (fun ci fs => ci ∈ cis ∧ vRc fs[k]? K)) ∧
  (∀ g h a cis k x K, pV g h (some a) cis k x K = (g.1 ≤ a ∧ obc (h.1 a) (fun ci fs => ci ∈ cis ∧ k < fs.length ∧ K (updH h a (.inr (ci, fs.set k x)))))) ∧
  (∀ h a t i K, aI h (some a) t i K = aic (h.1 a) (fun t' xs => t' = t ∧ vp_in i xs.length ∧ K (xs.getD i.toNatClampNeg 0))) ∧ (∀ h a t i K, aJ h (some a) t i K = ajc (h.1 a) (fun t' xs => t' = t ∧ vp_in i xs.length ∧ K (xs.getD i.toNatClampNeg 0))) ∧ (∀ h a t i K, aR h (some a) t i K = arc (h.1 a) (fun t' xs => t' = t ∧ vp_in i xs.length ∧ K (xs.getD i.toNatClampNeg none))) ∧
  (∀ g h a t i x K, sI g h (some a) t i x K = (g.1 ≤ a ∧ aic (h.1 a) (fun t' xs => t' = t ∧ vp_in i xs.length ∧ K (updH h a (.inl (t, .inl (xs.set i.toNatClampNeg x))))))) ∧ (∀ g h a t i x K, sJ g h (some a) t i x K = (g.1 ≤ a ∧ ajc (h.1 a) (fun t' xs => t' = t ∧ vp_in i xs.length ∧ K (updH h a (.inl (t, .inr (.inl (xs.set i.toNatClampNeg x)))))))) ∧
  (∀ g h a b t cis i K, sR g h (some a) t cis i (some b) K = (g.1 ≤ a ∧ obc (h.1 b) (fun ci _ => ci ∈ cis) ∧ arc (h.1 a) (fun t' xs => t' = t ∧ vp_in i xs.length ∧ K (updH h a (.inl (t, .inr (.inr (xs.set i.toNatClampNeg (some b))))))))) ∧
  (∀ h a K, aL h (some a) K = alc (h.1 a) (fun t x => t < 9 ∧ K (nI (arrP x).1))) ∧ (∀ h a ci, isO h (some a) ci = obc (h.1 a) (fun c _ => c = ci)) ∧ (∀ h a b e, (updH h a e).1 b = if b = a then some e else h.1 b) ∧ (∀ h a e, (updH h a e).2 = h.2) ∧
  (∀ o K, obc (some (.inr o)) K = K o.1 o.2) ∧ (∀ t xs K, aic (some (.inl (t, .inl xs))) K = K t xs) ∧ (∀ t xs K, ajc (some (.inl (t, .inr (.inl xs)))) K = K t xs) ∧ (∀ t xs K, arc (some (.inl (t, .inr (.inr xs)))) K = K t xs) ∧ (∀ t x K, alc (some (.inl (t, x))) K = K t x) ∧
  (∀ x K, vIc (some (.int x)) K = K x) ∧ (∀ x K, vJc (some (.long x)) K = K x) ∧ (∀ r K, vRc (some (va_rf r)) K = K r) ∧ (∀ x K, nmI x K = K x) ∧ (∀ x K, nmJ x K = K x) ∧ (∀ P, nz .boolean 0 P = P) ∧ (∀ P, nz .boolean 1 P = P) :=
  ⟨gI_s, gJ_s, gR_s, pV_s, aI_s, aJ_s, aR_s, sI_s, sJ_s, sR_s, aL_s, isO_s, upd_s, upd_2, obc_s, aic_s, ajc_s, arc_s, alc_s, vIc_s, vJc_s, vRc_rf, nmI_s, nmJ_s, nz_0, nz_1⟩
