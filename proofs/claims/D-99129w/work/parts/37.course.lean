set_option maxRecDepth 100000
/-! ===== the log, pure ===== -/
def pu_swap (ho : List Int32) (u v : Nat) : List Int32 := (ho.set u (ho.getD v 0)).set v (ho.getD u 0)
def pu_ev (C : PC) (k : Nat) (ho : List Int32) : List Int32 := if c_what C k = 0 then ho.set (c_one C k) (nI (c_oth C k)) else if c_what C k = 1 then ho.set (c_one C k) (-2) else if c_what C k = 2 then pu_swap ho (c_one C k) (c_oth C k) else ho
def pu_evs (C : PC) (d : Nat) (ho : List Int32) : Nat → List Int32
  | 0 => ho
  | k + 1 => if c_day C k = d then pu_ev C k (pu_evs C d ho k) else pu_evs C d ho k
def pu_rain (C : PC) (d : Nat) : Nat → Bool
  | 0 => false
  | k + 1 => pu_rain C d k || (decide (c_day C k = d) && decide (c_what C k = 3))
/-- a change that nobody saw, ahead of a day -/
def pu_uns (uns : Int32) (u v d : Nat) (ho : List Int32) : List Int32 := if nI d = uns then pu_swap ho u v else ho
def pu_day (C : PC) (uns : Int32) (u v d : Nat) (q : HP) : HP := pu_ends C (pu_rain C d (c_nl C)) (q.1, pu_evs C d (pu_uns uns u v d q.2.1) (c_nl C), q.2.2)
def pu_hist (C : PC) (uns : Int32) (u v : Nat) (q : HP) : Nat → HP
  | 0 => q
  | d + 1 => pu_day C uns u v d (pu_hist C uns u v q d)
theorem len_swap (ho : List Int32) (u v : Nat) : (pu_swap ho u v).length = ho.length := by simp [pu_swap]
theorem len_ev (C : PC) (k : Nat) (ho : List Int32) : (pu_ev C k ho).length = ho.length := by
  unfold pu_ev
  split
  · simp
  · split
    · simp
    · split
      · exact len_swap _ _ _
      · rfl
theorem pu_evs_off (C : PC) (d : Nat) (ho : List Int32) {k : Nat} : ∀ n, k ≤ n → (∀ j, k ≤ j → j < n → ¬ c_day C j = d) → pu_evs C d ho n = pu_evs C d ho k := by
  intro n
  induction n with
  | zero => intro h _; rw [show k = 0 by omega]
  | succ n ih =>
    intro h hj
    by_cases e : k = n + 1
    · rw [e]
    · rw [pu_evs, if_neg (hj n (by omega) (by omega)), ih (by omega) (fun j h1 h2 => hj j h1 (by omega))]
theorem pu_rain_off (C : PC) (d : Nat) {k : Nat} : ∀ n, k ≤ n → (∀ j, k ≤ j → j < n → ¬ c_day C j = d) → pu_rain C d n = pu_rain C d k := by
  intro n
  induction n with
  | zero => intro h _; rw [show k = 0 by omega]
  | succ n ih =>
    intro h hj
    by_cases e : k = n + 1
    · rw [e]
    · rw [pu_rain, ih (by omega) (fun j h1 h2 => hj j h1 (by omega)), decide_eq_false (hj n (by omega) (by omega))]
      simp
theorem okH.ev {C : PC} (ok : okC C) {ho : List Int32} (H : okH C ho) (k : Nat) : okH C (pu_ev C k ho) := by
  obtain ⟨-, -, -, -, -, -, -, -, -, -, -, -, -, -, -, o1, -, o2, o3, -⟩ := ok
  unfold pu_ev
  split
  · rename_i e
    exact H.set (Or.inr ⟨_, o2 k e, rfl⟩)
  · split
    · exact H.set (Or.inl rfl)
    · split
      · rename_i e
        exact (H.set (H _ (o3 k e))).set (H _ (o1 k))
      · exact H
theorem okH.evs {C : PC} (ok : okC C) {ho : List Int32} (H : okH C ho) (d : Nat) : ∀ n, okH C (pu_evs C d ho n) := by
  intro n
  induction n with
  | zero => exact H
  | succ n ih =>
    unfold pu_evs
    split
    · exact ih.ev ok _
    · exact ih
theorem okH.begin {C : PC} (ok : okC C) (ho ti : List Int32) : ∀ n, n ≤ c_nu C → ho.length = 5 → ∀ u, u < n → who (c_np C) ((pu_begin C ho ti n).1.getD u 0) := by
  intro n
  induction n with
  | zero => intro _ _ u hu; omega
  | succ n ih =>
    intro hn hl u hu
    have hnu : c_nu C ≤ 5 := ok.2.2.2.1
    have hw := ok.2.2.2.2.2.2.2.2.2.2.2.2.2.2.2.2.2.2.2.2.2.2.2.2 n
    show who _ (((pu_begin C ho ti n).1.set n (c_wth C n)).getD u 0)
    by_cases e : u = n
    · subst e
      rw [List.getD_eq_getElem?_getD, List.getElem?_set_self (by rw [(len_begin C ho ti u).1]; omega)]
      exact hw
    · rw [List.getD_eq_getElem?_getD, List.getElem?_set_ne (Ne.symm e), ← List.getD_eq_getElem?_getD]
      exact ih (by omega) hl u (by omega)
theorem okH.uns {C : PC} {ho : List Int32} (H : okH C ho) {uns : Int32} {u v d : Nat} (huv : (∀ d : Nat, d ≤ 40 → ¬ nI d = uns) ∨ (u < c_nu C ∧ v < c_nu C)) (hd : d ≤ 40) : okH C (pu_uns uns u v d ho) := by
  unfold pu_uns
  split
  · rename_i e
    rcases huv with h | h
    · exact absurd e (h d hd)
    · exact (H.set (H _ h.2)).set (H _ h.1)
  · exact H
/-! ===== a course in the heap ===== -/
def crsAt (h : AH) (a : Nat) (c : Option Nat) (d : Int32) (ho ti HO TI : List Int32) : Prop := h.1 a = some (.inr (5, [va_rf (some (a + 1)), va_rf (some (a + 4)), va_rf (some (a + 5))])) ∧ hallAt h (a + 1) c d ho ti ∧ h.1 (a + 4) = some (.inl (0, .inl HO)) ∧ h.1 (a + 5) = some (.inl (0, .inl TI)) ∧ HO.length = 205 ∧ TI.length = 205
def crsS (a : Nat) : Nat → Prop := fun q => a ≤ q ∧ q < a + 6
theorem crsAt.v {h : AH} {a : Nat} {c : Option Nat} {d : Int32} {ho ti HO TI : List Int32} (H : crsAt h a c d ho ti HO TI) : (∀ K, gR h (some a) [5] 0 K = K (some (a + 1))) ∧ (∀ K, gR h (some a) [5] 1 K = K (some (a + 4))) ∧ (∀ K, gR h (some a) [5] 2 K = K (some (a + 5))) ∧ (isO h (some a) 5 = True) ∧ (∀ u K, u < 205 → aI h (some (a + 4)) 0 (nI u) K = K (HO.getD u 0)) ∧ (∀ u K, u < 205 → aI h (some (a + 5)) 0 (nI u) K = K (TI.getD u 0)) := by
  obtain ⟨h1, h2, h3, h4, l1, l2⟩ := H
  have m : 5 ∈ [5] := by decide
  exact ⟨fun K => gR_v h1 m rfl K, fun K => gR_v h1 m rfl K, fun K => gR_v h1 m rfl K, by rw [isO_v h1]; exact eq_self 5, fun u K hu => aI_v h3 (by omega) (by omega) K, fun u K hu => aI_v h4 (by omega) (by omega) K⟩
theorem crsAt.fr {h h' : AH} {a : Nat} {c : Option Nat} {d : Int32} {ho ti HO TI : List Int32} {S : Nat → Prop} (H : crsAt h a c d ho ti HO TI) (hf : Fr S h h') (h0 : ∀ q, crsS a q → ¬ S q) : crsAt h' a c d ho ti HO TI := by
  obtain ⟨h1, h2, h3, h4, l⟩ := H
  unfold crsS at h0
  exact ⟨(hf.1 _ (h0 _ (by omega))).trans h1, h2.fr hf (h0 _ (by omega)) (h0 _ (by omega)) (h0 _ (by omega)), (hf.1 _ (h0 _ (by omega))).trans h3, (hf.1 _ (h0 _ (by omega))).trans h4, l⟩
theorem crsAt.hall {h h' : AH} {a : Nat} {c c' : Option Nat} {d d' : Int32} {ho ti ho' ti' HO TI : List Int32} (H : crsAt h a c d ho ti HO TI) (hf : Fr (hallS (a + 1)) h h') (hh : hallAt h' (a + 1) c' d' ho' ti') : crsAt h' a c' d' ho' ti' HO TI := by
  obtain ⟨h1, h2, h3, h4, l⟩ := H
  have nh : ∀ q, q = a ∨ q = a + 4 ∨ q = a + 5 → ¬ hallS (a + 1) q := by intro q hq; unfold hallS; omega
  exact ⟨(hf.1 _ (nh _ (by omega))).trans h1, hh, (hf.1 _ (nh _ (by omega))).trans h3, (hf.1 _ (nh _ (by omega))).trans h4, l⟩
theorem crsS_hall {a q : Nat} (h : hallS (a + 1) q) : crsS a q := by unfold hallS at h; unfold crsS; omega
theorem CW.frB {lo : Nat} {h h' : AH} {a c : Nat} {C : PC} {A : PA} (H : CW lo h c C A) (hf : Fr (crsS a) h h') (hlo : a + 6 ≤ lo) : CW lo h' c C A := H.fr fun b hb => hf.1 b (by unfold crsS; omega)
theorem CW.ev {lo : Nat} {h : AH} {c : Nat} {C : PC} {A : PA} (H : CW lo h c C A) {k : Nat} (hk : k < c_nl C) : h.1 (A.2.1 2 k) = some (.inr (21 + c_what C k, evF C k)) := (H.2.2.2.2.1.2.choose_spec.2.2 k hk).2.2
theorem cp_get {xs ys : List Int32} {dp j : Nat} (hx : xs.length = 5) (hy : dp + 5 ≤ ys.length) : (cpL xs ys 0 dp 5).getD j 0 = if dp ≤ j ∧ j < dp + 5 then xs.getD (j - dp) 0 else ys.getD j 0 := by
  unfold cpL
  rw [List.drop_zero, List.take_of_length_le (by omega : xs.length ≤ 5), List.getD_eq_getElem?_getD]
  by_cases c1 : j < dp
  · rw [if_neg (by omega), List.append_assoc, List.getElem?_append_left (by rw [List.length_take]; omega), List.getElem?_take_of_lt c1, ← List.getD_eq_getElem?_getD]
  · by_cases c2 : j < dp + 5
    · rw [if_pos ⟨by omega, c2⟩, List.getElem?_append_left (by rw [List.length_append, List.length_take]; omega), List.getElem?_append_right (by rw [List.length_take]; omega), List.length_take, ← List.getD_eq_getElem?_getD]
      congr 1
      omega
    · rw [if_neg (by omega), List.getElem?_append_right (by rw [List.length_append, List.length_take]; omega), List.getElem?_drop, ← List.getD_eq_getElem?_getD, List.length_append, List.length_take]
      congr 1
      omega
theorem cp_len {xs ys : List Int32} {dp : Nat} (hx : xs.length = 5) (hy : dp + 5 ≤ ys.length) : (cpL xs ys 0 dp 5).length = ys.length := by
  unfold cpL
  rw [List.length_append, List.length_append, List.length_take, List.length_take, List.length_drop, List.length_drop]
  omega
section Crs
variable {g : GT} {h : AH} {lo a c : Nat} {C : PC} {A : PA} {E : Nat → AH → Prop}
/-- an event happens -/
theorem s_happens {d : Int32} {ho ti : List Int32} {k b : Nat} (hH : hallAt h b (some c) d ho ti) (hC : CW lo h c C A) (ok : okC C) (hb : g.1 ≤ b) (hk : k < c_nl C) {K : Unit → AH → Prop} (hK : ∀ h', hallAt h' b (some c) d (pu_ev C k ho) ti → Fr (hallS b) h h' → K () h') : (21 + c_what C k = 21 ∧ w_X21_happens g (some (A.2.1 2 k)) (some b) K E0 h) ∨ (21 + c_what C k = 22 ∧ w_X22_happens g (some (A.2.1 2 k)) (some b) K E0 h) ∨ (21 + c_what C k = 23 ∧ w_X23_happens g (some (A.2.1 2 k)) (some b) K E0 h) ∨ (21 + c_what C k = 24 ∧ w_X24_happens g (some (A.2.1 2 k)) (some b) K E0 h) := by
  have hv := hH.v
  have hev := hC.ev hk
  have hi := isO_v hev
  obtain ⟨-, -, -, n4, -, -, -, -, -, -, -, -, -, -, o0, o1, -, o2, o3, -⟩ := ok
  have h0 := o0 k
  have h1 := o1 k
  have : c_what C k = 0 ∨ c_what C k = 1 ∨ c_what C k = 2 ∨ c_what C k = 3 := by omega
  rcases this with e | e | e | e
  · refine Or.inl ⟨by omega, ?_⟩
    have ef : evF C k = [.int (nI (c_one C k)), .int (nI (c_day C k)), .int (nI (c_oth C k))] := by unfold evF; rw [if_pos e]
    rw [e, ef] at hev
    have ee : pu_ev C k ho = ho.set (c_one C k) (nI (c_oth C k)) := by unfold pu_ev; rw [if_pos e]
    rw [ee] at hK
    have g0 := gI_v hev (cis := [21]) (by decide) (k := 0) (x := nI (c_one C k)) rfl
    have g2 := gI_v hev (cis := [21]) (by decide) (k := 2) (x := nI (c_oth C k)) rfl
    simp only [↓bt1, ↓bt2, ↓bt3, ↓bt4, ↓nmI_s, ↓nmJ_s, ↓letK_s, ↓nz_0, ↓nz_1, ↓nz_b, not_false_eq_true, not_true_eq_false, true_and, and_true, bI_0, bI_1, imp_tt, imp_ff, ↓w_X21_happens, ↓hv, ↓g0, ↓g2]
    exact h_ho hH hb (by omega) _ hK
  · refine Or.inr (Or.inl ⟨by omega, ?_⟩)
    have ef : evF C k = [.int (nI (c_one C k)), .int (nI (c_day C k))] := by unfold evF; rw [if_neg (by omega), if_pos e]
    rw [e, ef] at hev
    have ee : pu_ev C k ho = ho.set (c_one C k) (-2) := by unfold pu_ev; rw [if_neg (by omega), if_pos e]
    rw [ee] at hK
    have g0 := gI_v hev (cis := [22]) (by decide) (k := 0) (x := nI (c_one C k)) rfl
    simp only [↓bt1, ↓bt2, ↓bt3, ↓bt4, ↓nmI_s, ↓nmJ_s, ↓letK_s, ↓nz_0, ↓nz_1, ↓nz_b, not_false_eq_true, not_true_eq_false, true_and, and_true, bI_0, bI_1, imp_tt, imp_ff, ↓w_X22_happens, ↓hv, ↓g0]
    exact h_ho hH hb (by omega) _ hK
  · refine Or.inr (Or.inr (Or.inl ⟨by omega, ?_⟩))
    have ef : evF C k = [.int (nI (c_one C k)), .int (nI (c_day C k)), .int (nI (c_oth C k))] := by unfold evF; rw [if_neg (by omega), if_neg (by omega), if_pos e]
    rw [e, ef] at hev
    have ee : pu_ev C k ho = pu_swap ho (c_one C k) (c_oth C k) := by unfold pu_ev; rw [if_neg (by omega), if_neg (by omega), if_pos e]
    rw [ee] at hK
    have g0 := gI_v hev (cis := [23]) (by decide) (k := 0) (x := nI (c_one C k)) rfl
    have g2 := gI_v hev (cis := [23]) (by decide) (k := 2) (x := nI (c_oth C k)) rfl
    have h2 := o3 k e
    simp only [↓bt1, ↓bt2, ↓bt3, ↓bt4, ↓nmI_s, ↓nmJ_s, ↓letK_s, ↓nz_0, ↓nz_1, ↓nz_b, not_false_eq_true, not_true_eq_false, true_and, and_true, bI_0, bI_1, imp_tt, imp_ff, ↓w_X23_happens, hv, ↓g0, ↓g2]
    exact s_change hH hb (by omega) (by omega) hK
  · refine Or.inr (Or.inr (Or.inr ⟨by omega, ?_⟩))
    have ee : pu_ev C k ho = ho := by unfold pu_ev; rw [if_neg (by omega), if_neg (by omega), if_neg (by omega)]
    rw [ee] at hK
    exact hK h hH Fr.rfl
theorem d_isRain (hC : CW lo h c C A) (ok : okC C) {k : Nat} (hk : k < c_nl C) (K : Int32 → AH → Prop) : ((isO h (some (A.2.1 2 k)) 21 ∧ w_X20_isRain g (some (A.2.1 2 k)) K E0 h) ∨ (isO h (some (A.2.1 2 k)) 22 ∧ w_X20_isRain g (some (A.2.1 2 k)) K E0 h) ∨ (isO h (some (A.2.1 2 k)) 23 ∧ w_X20_isRain g (some (A.2.1 2 k)) K E0 h) ∨ (isO h (some (A.2.1 2 k)) 24 ∧ w_X24_isRain g (some (A.2.1 2 k)) K E0 h)) = K (bI (decide (c_what C k = 3))) h := by
  have hv := hC.v ok
  have h0 : c_what C k < 4 := ok.2.2.2.2.2.2.2.2.2.2.2.2.2.2.1 k
  have : c_what C k = 0 ∨ c_what C k = 1 ∨ c_what C k = 2 ∨ c_what C k = 3 := by omega
  rcases this with e | e | e | e <;> simp only [↓bt1, ↓bt2, ↓bt3, ↓bt4, ↓nmI_s, ↓nmJ_s, ↓letK_s, ↓nz_0, ↓nz_1, ↓nz_b, not_false_eq_true, not_true_eq_false, true_and, and_true, bI_0, bI_1, imp_tt, imp_ff, hv, hk, e, w_X20_isRain, w_X24_isRain] <;> simp [bI]
theorem g_day (hC : CW lo h c C A) (ok : okC C) {k : Nat} (hk : k < c_nl C) (K : Int32 → Prop) : gI h (some (A.2.1 2 k)) [21, 22, 23, 24] 1 K = K (nI (c_day C k)) := by
  have hev := hC.ev hk
  have h0 : c_what C k < 4 := ok.2.2.2.2.2.2.2.2.2.2.2.2.2.2.1 k
  have : c_what C k = 0 ∨ c_what C k = 1 ∨ c_what C k = 2 ∨ c_what C k = 3 := by omega
  rcases this with e | e | e | e <;> refine gI_v hev (by rw [e]; decide) ?_ K <;> unfold evF <;> simp [e]
end Crs
