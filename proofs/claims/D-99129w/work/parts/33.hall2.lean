set_option maxRecDepth 100000
/-! ===== a hall's moves, pure ===== -/
def pu_right (ho ti : List Int32) : Nat → Int32
  | 0 => 0
  | u + 1 => pu_right ho ti u ||| (if ¬ ti.getD u 0 = (-2) ∧ ti.getD u 0 = ho.getD u 0 then 1 <<< (nI u &&& 31) else 0)
def pu_take (C : PC) (ho : List Int32) (u : Nat) (ti : List Int32) : List Int32 := if ho.getD u 0 = (-2) then ti else if canP (c_sort C (ho.getD u 0).toNatClampNeg) then ti.set u (ho.getD u 0) else ti
def pu_begin (C : PC) (ho ti : List Int32) : Nat → List Int32 × List Int32
  | 0 => (ho, ti)
  | u + 1 => ((pu_begin C ho ti u).1.set u (c_wth C u), if titledP (c_kind C u) then pu_take C ((pu_begin C ho ti u).1.set u (c_wth C u)) u ((pu_begin C ho ti u).2.set u (-2)) else (pu_begin C ho ti u).2.set u (-2))
def pu_e1 (C : PC) (r : Bool) (ho ti : List Int32) : Nat → List Int32
  | 0 => ti
  | u + 1 => if passP (c_kind C u) r then pu_take C ho u (pu_e1 C r ho ti u) else pu_e1 C r ho ti u
def pu_e2 (C : PC) (ti : List Int32) : Nat → List Int32
  | 0 => ti
  | u + 1 => if lapseP (c_kind C u) then (pu_e2 C ti u).set u (-2) else pu_e2 C ti u
def pu_dry (r : Bool) (d : Int32) : Int32 := if r then 0 else if d + 1 < 30 then d + 1 else 30
def pu_onesN : Nat → Int32 → Int32 → Int32
  | 0, acc, _ => acc
  | n + 1, acc, x => if x = 0 then acc else pu_onesN n (acc + 1) (x &&& (x - 1))
def pu_ones (x : Int32) : Int32 := pu_onesN 7 0 x
def pu_best (C : PC) (ho : List Int32) (p : Int32) : Nat → Option Nat
  | 0 => none
  | u + 1 => if ho.getD u 0 = p then (match pu_best C ho p u with
    | none => some u
    | some b => if c_lands C u < c_lands C b then some u else some b) else pu_best C ho p u
def pu_leave (C : PC) (ho : List Int32) (p : Int32) : List Int32 := if 2 ≤ pu_ones (pu_has ho p (c_nu C)) then (match pu_best C ho p (c_nu C) with
  | some b => ho.set b (-2)
  | none => ho) else ho
def pu_e3 (C : PC) (ho : List Int32) : Nat → List Int32
  | 0 => ho
  | p + 1 => if leaveP (c_sort C p) then pu_leave C (pu_e3 C ho p) (nI p) else pu_e3 C ho p
/-- a hall: dry days, who has which, whose title it is -/
abbrev HP : Type := Int32 × List Int32 × List Int32
def pu_ends (C : PC) (r : Bool) (q : HP) : HP := (pu_dry r q.1, pu_e3 C q.2.1 (c_np C), if nI (c_lapse C) ≤ pu_dry r q.1 then pu_e2 C (pu_e1 C r q.2.1 q.2.2 (c_nu C)) (c_nu C) else pu_e1 C r q.2.1 q.2.2 (c_nu C))
theorem len_take (C : PC) (ho : List Int32) (u : Nat) (ti : List Int32) : (pu_take C ho u ti).length = ti.length := by
  unfold pu_take
  split
  · rfl
  · split <;> simp
theorem len_e1 (C : PC) (r : Bool) (ho ti : List Int32) : ∀ n, (pu_e1 C r ho ti n).length = ti.length := by
  intro n
  induction n with
  | zero => rfl
  | succ n ih => unfold pu_e1; split <;> simp [len_take, ih]
theorem len_e2 (C : PC) (ti : List Int32) : ∀ n, (pu_e2 C ti n).length = ti.length := by
  intro n
  induction n with
  | zero => rfl
  | succ n ih => unfold pu_e2; split <;> simp [ih]
theorem len_leave (C : PC) (ho : List Int32) (p : Int32) : (pu_leave C ho p).length = ho.length := by
  unfold pu_leave
  split
  · split <;> simp
  · rfl
theorem len_e3 (C : PC) (ho : List Int32) : ∀ n, (pu_e3 C ho n).length = ho.length := by
  intro n
  induction n with
  | zero => rfl
  | succ n ih => unfold pu_e3; split <;> simp [len_leave, ih]
/-! ===== writes ===== -/
section Halls
variable {g : GT} {h : AH} {lo a c : Nat} {C : PC} {A : PA} {d : Int32} {ho ti : List Int32} {E : Nat → AH → Prop}
theorem hallS_lo {a lo b : Nat} (hlo : a + 3 ≤ lo) (hb : lo ≤ b) : ¬ hallS a b := by unfold hallS; omega
theorem CW.frH {h' : AH} (H : CW lo h c C A) (hf : Fr (hallS a) h h') (hlo : a + 3 ≤ lo) : CW lo h' c C A := H.fr fun b hb => hf.1 b (hallS_lo hlo hb)
theorem h_ti {c : Option Nat} (hH : hallAt h a c d ho ti) (ha : g.1 ≤ a) {u : Nat} (hu : u < 5) (x : Int32) {K : AH → Prop} (k : ∀ h', hallAt h' a c d ho (ti.set u x) → Fr (hallS a) h h' → K h') : sI g h (some (a + 2)) 0 (nI u) x K := by
  obtain ⟨h1, h2, h3, l1, l2⟩ := hH
  rw [sI_v (by omega) h3 (by omega) (by omega)]
  refine k _ ⟨?_, ?_, ?_, l1, by simp [l2]⟩ (Fr.upd (Or.inr (Or.inr rfl)))
  · rw [upd_s, if_neg (by omega)]; exact h1
  · rw [upd_s, if_neg (by omega)]; exact h2
  · rw [upd_s, if_pos rfl]
theorem h_ho {c : Option Nat} (hH : hallAt h a c d ho ti) (ha : g.1 ≤ a) {u : Nat} (hu : u < 5) (x : Int32) {K : AH → Prop} (k : ∀ h', hallAt h' a c d (ho.set u x) ti → Fr (hallS a) h h' → K h') : sI g h (some (a + 1)) 0 (nI u) x K := by
  obtain ⟨h1, h2, h3, l1, l2⟩ := hH
  rw [sI_v (by omega) h2 (by omega) (by omega)]
  refine k _ ⟨?_, ?_, ?_, by simp [l1], l2⟩ (Fr.upd (Or.inr (Or.inl rfl)))
  · rw [upd_s, if_neg (by omega)]; exact h1
  · rw [upd_s, if_pos rfl]
  · rw [upd_s, if_neg (by omega)]; exact h3
theorem h_dry {c : Option Nat} (hH : hallAt h a c d ho ti) (ha : g.1 ≤ a) (x : Int32) {K : AH → Prop} (k : ∀ h', hallAt h' a c x ho ti → Fr (hallS a) h h' → K h') : pV g h (some a) [4] 3 (.int x) K := by
  obtain ⟨h1, h2, h3, l1, l2⟩ := hH
  rw [pV_v ha h1 (by decide) (by simp)]
  refine k _ ⟨?_, ?_, ?_, l1, l2⟩ (Fr.upd (Or.inl rfl))
  · rw [upd_s, if_pos rfl]; rfl
  · rw [upd_s, if_neg (by omega)]; exact h2
  · rw [upd_s, if_neg (by omega)]; exact h3
theorem h_cty {c : Option Nat} (hH : hallAt h a c d ho ti) (ha : g.1 ≤ a) (x : Option Nat) {K : AH → Prop} (k : ∀ h', hallAt h' a x d ho ti → Fr (hallS a) h h' → K h') : pV g h (some a) [4] 2 (va_rf x) K := by
  obtain ⟨h1, h2, h3, l1, l2⟩ := hH
  rw [pV_v ha h1 (by decide) (by simp)]
  refine k _ ⟨?_, ?_, ?_, l1, l2⟩ (Fr.upd (Or.inl rfl))
  · rw [upd_s, if_pos rfl]; rfl
  · rw [upd_s, if_neg (by omega)]; exact h2
  · rw [upd_s, if_neg (by omega)]; exact h3
/-! ===== the moves ===== -/
theorem s_lands {p : Int32} {K : Int32 → AH → Prop} (hH : hallAt h a (some c) d ho ti) (hC : CW lo h c C A) (ok : okC C) (hK : K (pu_lands C ti p (c_nu C)) h) : w_X4_lands g (some a) p K E h := by
  have hv := hH.v
  have cv := hC.v ok
  have hnu : c_nu C ≤ 5 := ok.2.2.2.1
  refine Lp2_for (c_nu C) (fun i a1 a2 h' => h' = h ∧ a1 = pu_lands C ti p i ∧ a2 = nI i) ?_ ?_ ⟨rfl, rfl, rfl⟩
  · rintro i _ _ _ L hi ⟨rfl, rfl, rfl⟩ hL
    have e1 := nle_s (a := i) (b := c_nu C) hi (by omega)
    have hi5 : i < 5 := by omega
    by_cases hp : ti.getD i 0 = p
    · simp only [↓bt1, ↓bt2, ↓bt3, ↓bt4, ↓nmI_s, ↓nmJ_s, ↓letK_s, ↓nz_0, ↓nz_1, ↓nz_b, not_false_eq_true, not_true_eq_false, true_and, and_true, bI_0, bI_1, imp_tt, imp_ff, ↓w_X4_lands_L4, ↓w_X4_lands_J42, ↓hv, ↓cv, hi, e1, hi5, hp]
      exact hL _ _ _ ⟨rfl, by simp only [pu_lands, hp, if_true], nI_1 i⟩
    · simp only [↓bt1, ↓bt2, ↓bt3, ↓bt4, ↓nmI_s, ↓nmJ_s, ↓letK_s, ↓nz_0, ↓nz_1, ↓nz_b, not_false_eq_true, not_true_eq_false, true_and, and_true, bI_0, bI_1, imp_tt, imp_ff, ↓w_X4_lands_L4, ↓w_X4_lands_J42, ↓hv, ↓cv, hi, e1, hi5, hp]
      exact hL _ _ _ ⟨rfl, by simp only [pu_lands, hp, if_false], nI_1 i⟩
  · rintro _ _ _ L ⟨rfl, rfl, rfl⟩
    have e1 : nI (c_nu C) ≤ nI (c_nu C) := nI_le (Nat.le_refl _) (by omega)
    simp only [↓bt1, ↓bt2, ↓bt3, ↓bt4, ↓nmI_s, ↓nmJ_s, ↓letK_s, ↓nz_0, ↓nz_1, ↓nz_b, not_false_eq_true, not_true_eq_false, true_and, and_true, bI_0, bI_1, imp_tt, imp_ff, ↓w_X4_lands_L4, ↓hv, ↓cv, e1, hK]
theorem s_right {K : Int32 → AH → Prop} (hH : hallAt h a (some c) d ho ti) (hC : CW lo h c C A) (ok : okC C) (hK : K (pu_right ho ti (c_nu C)) h) : w_X4_right g (some a) K E h := by
  have hv := hH.v
  have cv := hC.v ok
  have hnu : c_nu C ≤ 5 := ok.2.2.2.1
  refine Lp2_for (c_nu C) (fun i a1 a2 h' => h' = h ∧ a1 = pu_right ho ti i ∧ a2 = nI i) ?_ ?_ ⟨rfl, rfl, rfl⟩
  · rintro i _ _ _ L hi ⟨rfl, rfl, rfl⟩ hL
    have e1 := nle_s (a := i) (b := c_nu C) hi (by omega)
    have hi5 : i < 5 := by omega
    by_cases hp : ti.getD i 0 = (-2)
    · simp only [↓bt1, ↓bt2, ↓bt3, ↓bt4, ↓nmI_s, ↓nmJ_s, ↓letK_s, ↓nz_0, ↓nz_1, ↓nz_b, not_false_eq_true, not_true_eq_false, true_and, and_true, bI_0, bI_1, imp_tt, imp_ff, ↓w_X4_right_L4, ↓w_X4_right_J48, ↓w_X4_right_J49, ↓hv, ↓cv, hi, e1, hi5, hp]
      exact hL _ _ _ ⟨rfl, by simp only [pu_right, hp, not_true_eq_false, false_and, if_false], nI_1 i⟩
    · by_cases hq : ti.getD i 0 = ho.getD i 0
      · simp only [↓bt1, ↓bt2, ↓bt3, ↓bt4, ↓nmI_s, ↓nmJ_s, ↓letK_s, ↓nz_0, ↓nz_1, ↓nz_b, not_false_eq_true, not_true_eq_false, true_and, and_true, bI_0, bI_1, imp_tt, imp_ff, ↓w_X4_right_L4, ↓w_X4_right_J48, ↓w_X4_right_J49, ↓hv, ↓cv, hi, e1, hi5, hp, ↓bt3 hq]
        exact hL _ _ _ ⟨rfl, by simp only [pu_right]; rw [if_pos ⟨hp, hq⟩], nI_1 i⟩
      · simp only [↓bt1, ↓bt2, ↓bt3, ↓bt4, ↓nmI_s, ↓nmJ_s, ↓letK_s, ↓nz_0, ↓nz_1, ↓nz_b, not_false_eq_true, not_true_eq_false, true_and, and_true, bI_0, bI_1, imp_tt, imp_ff, ↓w_X4_right_L4, ↓w_X4_right_J48, ↓w_X4_right_J49, ↓hv, ↓cv, hi, e1, hi5, hp, hq]
        exact hL _ _ _ ⟨rfl, by simp only [pu_right]; rw [if_neg (fun z => hq z.2)], nI_1 i⟩
  · rintro _ _ _ L ⟨rfl, rfl, rfl⟩
    have e1 : nI (c_nu C) ≤ nI (c_nu C) := nI_le (Nat.le_refl _) (by omega)
    simp only [↓bt1, ↓bt2, ↓bt3, ↓bt4, ↓nmI_s, ↓nmJ_s, ↓letK_s, ↓nz_0, ↓nz_1, ↓nz_b, not_false_eq_true, not_true_eq_false, true_and, and_true, bI_0, bI_1, imp_tt, imp_ff, ↓w_X4_right_L4, ↓hv, ↓cv, e1, hK]
theorem s_take {u : Nat} {K : Unit → AH → Prop} (hH : hallAt h a (some c) d ho ti) (hC : CW lo h c C A) (ok : okC C) (ha : g.1 ≤ a) (hu : u < 5) (hw : who (c_np C) (ho.getD u 0)) (hK : ∀ h', hallAt h' a (some c) d ho (pu_take C ho u ti) → Fr (hallS a) h h' → K () h') : w_X4_takes g (some a) (nI u) K E h := by
  have hv := hH.v
  have cv := hC.v ok
  rcases hw with hw | ⟨p, hp, hw⟩
  · have e : pu_take C ho u ti = ti := by unfold pu_take; rw [if_pos hw]
    rw [e] at hK
    simp only [↓bt1, ↓bt2, ↓bt3, ↓bt4, ↓nmI_s, ↓nmJ_s, ↓letK_s, ↓nz_0, ↓nz_1, ↓nz_b, not_false_eq_true, not_true_eq_false, true_and, and_true, bI_0, bI_1, imp_tt, imp_ff, ↓w_X4_takes, ↓hv, ↓cv, hu, hw]
    exact hK h hH Fr.rfl
  · have np6 : c_np C ≤ 6 := ok.2.1
    have hcl : (nI p).toNatClampNeg = p := nI_clamp (by omega)
    have hn2 : ¬ nI p = (-2) := by
      have : ∀ q : Nat, q < 6 → ¬ nI q = (-2) := by decide
      exact this p (by omega)
    have hcan := d_canHold (g := g) hC ok hp
    cases hb : canP (c_sort C p) with
    | false =>
      have e : pu_take C ho u ti = ti := by unfold pu_take; rw [hw, if_neg hn2, hcl, hb]; rfl
      rw [e] at hK
      simp only [↓bt1, ↓bt2, ↓bt3, ↓bt4, ↓nmI_s, ↓nmJ_s, ↓letK_s, ↓nz_0, ↓nz_1, ↓nz_b, not_false_eq_true, not_true_eq_false, true_and, and_true, bI_0, bI_1, imp_tt, imp_ff, ↓w_X4_takes, ↓hv, ↓cv, hu, hw, hn2, hp, ↓hcan, hb]
      exact hK h hH Fr.rfl
    | true =>
      have e : pu_take C ho u ti = ti.set u (nI p) := by unfold pu_take; rw [hw, if_neg hn2, hcl, hb]; rfl
      rw [e] at hK
      have h10 : ¬ (1 : Int32) = 0 := by decide
      simp only [↓bt1, ↓bt2, ↓bt3, ↓bt4, ↓nmI_s, ↓nmJ_s, ↓letK_s, ↓nz_0, ↓nz_1, ↓nz_b, not_false_eq_true, not_true_eq_false, true_and, and_true, bI_0, bI_1, imp_tt, imp_ff, ↓w_X4_takes, ↓hv, ↓cv, hu, hw, hn2, hp, ↓hcan, hb, h10]
      exact h_ti hH ha hu _ hK
theorem s_change {u v : Nat} {c : Option Nat} {K : Unit → AH → Prop} (hH : hallAt h a c d ho ti) (ha : g.1 ≤ a) (hu : u < 5) (hw : v < 5) (hK : ∀ h', hallAt h' a c d ((ho.set u (ho.getD v 0)).set v (ho.getD u 0)) ti → Fr (hallS a) h h' → K () h') : w_X4_change g (some a) (nI u) (nI v) K E h := by
  have hv := hH.v
  simp only [↓bt1, ↓bt2, ↓bt3, ↓bt4, ↓nmI_s, ↓nmJ_s, ↓letK_s, ↓nz_0, ↓nz_1, ↓nz_b, not_false_eq_true, not_true_eq_false, true_and, and_true, bI_0, bI_1, imp_tt, imp_ff, ↓w_X4_change, ↓hv, hu, hw]
  refine h_ho hH ha hu _ (fun h1 H1 F1 => ?_)
  have hv1 := H1.v
  simp only [↓bt1, ↓bt2, ↓bt3, ↓bt4, ↓nmI_s, ↓nmJ_s, ↓letK_s, ↓nz_0, ↓nz_1, ↓nz_b, not_false_eq_true, not_true_eq_false, true_and, and_true, bI_0, bI_1, imp_tt, imp_ff, ↓hv1]
  exact h_ho H1 ha hw _ (fun h2 H2 F2 => hK h2 H2 (F1.trans F2))
end Halls
