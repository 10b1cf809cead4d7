set_option maxRecDepth 100000
section Ends
variable {g : GT} {h : AH} {lo a c : Nat} {C : PC} {A : PA} {d : Int32} {ho ti : List Int32} {E : Nat → AH → Prop}
/-- all who have umbrellas are people -/
def okH (C : PC) (ho : List Int32) : Prop := ∀ u, u < c_nu C → who (c_np C) (ho.getD u 0)
theorem okH.set {C : PC} {ho : List Int32} (H : okH C ho) {u : Nat} {x : Int32} (hx : who (c_np C) x) : okH C (ho.set u x) := by
  intro v hv
  rw [List.getD_eq_getElem?_getD, List.getElem?_set]
  by_cases e : u = v
  · subst e
    rw [if_pos rfl]
    split
    · exact hx
    · rename_i q
      have := H u hv
      rw [List.getD_eq_getElem?_getD, List.getElem?_eq_none (by omega)] at this
      exact this
  · rw [if_neg e, ← List.getD_eq_getElem?_getD]
    exact H v hv
theorem okH.leave {C : PC} {ho : List Int32} (H : okH C ho) (p : Int32) : okH C (pu_leave C ho p) := by
  unfold pu_leave
  split
  · split
    · exact H.set (Or.inl rfl)
    · exact H
  · exact H
theorem okH.e3 {C : PC} {ho : List Int32} (H : okH C ho) : ∀ n, okH C (pu_e3 C ho n) := by
  intro n
  induction n with
  | zero => exact H
  | succ n ih =>
    unfold pu_e3
    split
    · exact ih.leave _
    · exact ih
theorem s_e3 {K : Unit → AH → Prop} (hH : hallAt h a (some c) d ho ti) (hC : CW lo h c C A) (ok : okC C) (ha : g.1 ≤ a) (hlo : a + 3 ≤ lo) (hK : ∀ h', hallAt h' a (some c) d (pu_e3 C ho (c_np C)) ti → Fr (hallS a) h h' → K () h') : Lp1 (w_X4_ends_L121 g (some a) K E) 0 h := by
  have hnp : c_np C ≤ 6 := ok.2.1
  refine Lp1_for (c_np C) (fun i a1 h' => a1 = nI i ∧ hallAt h' a (some c) d (pu_e3 C ho i) ti ∧ Fr (hallS a) h h') ?_ ?_ ⟨rfl, hH, Fr.rfl⟩
  · rintro i _ h3 L hi ⟨rfl, H3, F3⟩ hL
    have e1 := nle_s (a := i) (b := c_np C) hi (by omega)
    have C3 := hC.frH F3 hlo
    have cv := C3.v ok
    have hv := H3.v
    have hl := d_doesLeave (g := g) C3 ok hi
    have h10 : ¬ (1 : Int32) = 0 := by decide
    cases hb : leaveP (c_sort C i) with
    | false =>
      simp only [↓bt1, ↓bt2, ↓bt3, ↓bt4, ↓nmI_s, ↓nmJ_s, ↓letK_s, ↓nz_0, ↓nz_1, ↓nz_b, not_false_eq_true, not_true_eq_false, true_and, and_true, bI_0, bI_1, imp_tt, imp_ff, ↓w_X4_ends_L121, ↓hv, ↓cv, hi, e1, ↓hl, hb, ↓w_X4_ends_J152]
      refine hL _ _ ⟨nI_1 i, ?_, F3⟩
      rw [pu_e3, hb]
      exact H3
    | true =>
      simp only [↓bt1, ↓bt2, ↓bt3, ↓bt4, ↓nmI_s, ↓nmJ_s, ↓letK_s, ↓nz_0, ↓nz_1, ↓nz_b, not_false_eq_true, not_true_eq_false, true_and, and_true, bI_0, bI_1, imp_tt, imp_ff, ↓w_X4_ends_L121, ↓hv, ↓cv, hi, e1, ↓hl, hb, h10, ↓w_X4_ends_J152]
      refine s_leaves H3 C3 ok ha (fun h4 H4 F4 => ?_)
      refine hL _ _ ⟨nI_1 i, ?_, F3.trans F4⟩
      rw [pu_e3, hb]
      exact H4
  · rintro _ h3 L ⟨rfl, H3, F3⟩
    have e1 : nI (c_np C) ≤ nI (c_np C) := nI_le (Nat.le_refl _) (by omega)
    have C3 := hC.frH F3 hlo
    have cv := C3.v ok
    have hv := H3.v
    simp only [↓bt1, ↓bt2, ↓bt3, ↓bt4, ↓nmI_s, ↓nmJ_s, ↓letK_s, ↓nz_0, ↓nz_1, ↓nz_b, not_false_eq_true, not_true_eq_false, true_and, and_true, bI_0, bI_1, imp_tt, imp_ff, ↓w_X4_ends_L121, ↓hv, ↓cv, e1]
    exact hK h3 H3 F3
theorem s_e2 {K : Unit → AH → Prop} (hH : hallAt h a (some c) d ho ti) (hC : CW lo h c C A) (ok : okC C) (ha : g.1 ≤ a) (hlo : a + 3 ≤ lo) (hK : ∀ h', hallAt h' a (some c) d (pu_e3 C ho (c_np C)) (if nI (c_lapse C) ≤ d then pu_e2 C ti (c_nu C) else ti) → Fr (hallS a) h h' → K () h') : Lp1 (w_X4_ends_L65 g (some a) K E) 0 h := by
  have hnu : c_nu C ≤ 5 := ok.2.2.2.1
  have hnu1 : 1 ≤ c_nu C := ok.2.2.1
  by_cases hd : nI (c_lapse C) ≤ d
  · rw [if_pos hd] at hK
    have hd' : ¬ d < nI (c_lapse C) := Int32.not_lt.mpr hd
    refine Lp1_for (c_nu C) (fun i a1 h' => a1 = nI i ∧ hallAt h' a (some c) d ho (pu_e2 C ti i) ∧ Fr (hallS a) h h') ?_ ?_ ⟨rfl, hH, Fr.rfl⟩
    · rintro i _ h3 L hi ⟨rfl, H3, F3⟩ hL
      have e1 := nle_s (a := i) (b := c_nu C) hi (by omega)
      have C3 := hC.frH F3 hlo
      have cv := C3.v ok
      have hv := H3.v
      have hl := d_doesLapse (g := g) C3 ok hi
      have h10 : ¬ (1 : Int32) = 0 := by decide
      cases hb : lapseP (c_kind C i) with
      | false =>
        simp only [↓bt1, ↓bt2, ↓bt3, ↓bt4, ↓nmI_s, ↓nmJ_s, ↓letK_s, ↓nz_0, ↓nz_1, ↓nz_b, not_false_eq_true, not_true_eq_false, true_and, and_true, bI_0, bI_1, imp_tt, imp_ff, ↓w_X4_ends_L65, ↓hv, ↓cv, hi, e1, hd', ↓hl, hb, ↓w_X4_ends_J113]
        refine hL _ _ ⟨nI_1 i, ?_, F3⟩
        rw [pu_e2, hb]
        exact H3
      | true =>
        simp only [↓bt1, ↓bt2, ↓bt3, ↓bt4, ↓nmI_s, ↓nmJ_s, ↓letK_s, ↓nz_0, ↓nz_1, ↓nz_b, not_false_eq_true, not_true_eq_false, true_and, and_true, bI_0, bI_1, imp_tt, imp_ff, ↓w_X4_ends_L65, ↓hv, ↓cv, hi, e1, hd', ↓hl, hb, h10, ↓w_X4_ends_J113]
        refine h_ti H3 ha (by omega) _ (fun h4 H4 F4 => ?_)
        refine hL _ _ ⟨nI_1 i, ?_, F3.trans F4⟩
        rw [pu_e2, hb]
        exact H4
    · rintro _ h3 L ⟨rfl, H3, F3⟩
      have e1 : nI (c_nu C) ≤ nI (c_nu C) := nI_le (Nat.le_refl _) (by omega)
      have C3 := hC.frH F3 hlo
      have cv := C3.v ok
      have hv := H3.v
      simp only [↓bt1, ↓bt2, ↓bt3, ↓bt4, ↓nmI_s, ↓nmJ_s, ↓letK_s, ↓nz_0, ↓nz_1, ↓nz_b, not_false_eq_true, not_true_eq_false, true_and, and_true, bI_0, bI_1, imp_tt, imp_ff, ↓w_X4_ends_L65, ↓hv, ↓cv, e1, ↓w_X4_ends_J119]
      exact s_e3 H3 C3 ok ha hlo (fun h4 H4 F4 => hK h4 H4 (F3.trans F4))
  · rw [if_neg hd] at hK
    have hd' : d < nI (c_lapse C) := Int32.not_le.mp hd
    refine Lp1_for 0 (fun _ a1 h' => a1 = 0 ∧ h' = h) (fun i _ _ _ hi => by omega) ?_ ⟨rfl, rfl⟩
    rintro _ _ L ⟨rfl, rfl⟩
    have e1 : ¬ nI (c_nu C) ≤ 0 := nI_ge (a := 0) (by omega) (by omega)
    have cv := hC.v ok
    have hv := hH.v
    simp only [↓bt1, ↓bt2, ↓bt3, ↓bt4, ↓nmI_s, ↓nmJ_s, ↓letK_s, ↓nz_0, ↓nz_1, ↓nz_b, not_false_eq_true, not_true_eq_false, true_and, and_true, bI_0, bI_1, imp_tt, imp_ff, ↓w_X4_ends_L65, ↓hv, ↓cv, e1, hd', ↓w_X4_ends_J119]
    exact s_e3 hH hC ok ha hlo hK
theorem s_ends {r : Bool} {K : Unit → AH → Prop} (hH : hallAt h a (some c) d ho ti) (hC : CW lo h c C A) (ok : okC C) (ha : g.1 ≤ a) (hlo : a + 3 ≤ lo) (hw : okH C ho) (hK : ∀ h', hallAt h' a (some c) (pu_ends C r (d, ho, ti)).1 (pu_ends C r (d, ho, ti)).2.1 (pu_ends C r (d, ho, ti)).2.2 → Fr (hallS a) h h' → K () h') : w_X4_ends g (some a) (bI r) K E h := by
  have hnu : c_nu C ≤ 5 := ok.2.2.2.1
  have key : ∀ x : Int32, x = pu_dry r d → w_X4_ends_J20 g (some a) (bI r) x (some a) K E h := by
    rintro _ rfl
    unfold w_X4_ends_J20
    refine h_dry hH ha _ (fun h1 H1 F1 => ?_)
    refine Lp1_for (c_nu C) (fun i a1 h' => a1 = nI i ∧ hallAt h' a (some c) (pu_dry r d) ho (pu_e1 C r ho ti i) ∧ Fr (hallS a) h h') ?_ ?_ ⟨rfl, H1, F1⟩
    · rintro i _ h3 L hi ⟨rfl, H3, F3⟩ hL
      have e1 := nle_s (a := i) (b := c_nu C) hi (by omega)
      have C3 := hC.frH F3 hlo
      have cv := C3.v ok
      have hv := H3.v
      have hl := d_passes (g := g) C3 ok hi r
      have h10 : ¬ (1 : Int32) = 0 := by decide
      cases hb : passP (c_kind C i) r with
      | false =>
        simp only [↓bt1, ↓bt2, ↓bt3, ↓bt4, ↓nmI_s, ↓nmJ_s, ↓letK_s, ↓nz_0, ↓nz_1, ↓nz_b, not_false_eq_true, not_true_eq_false, true_and, and_true, bI_0, bI_1, imp_tt, imp_ff, ↓w_X4_ends_L25, ↓hv, ↓cv, hi, e1, ↓hl, hb, ↓w_X4_ends_J57]
        refine hL _ _ ⟨nI_1 i, ?_, F3⟩
        rw [pu_e1, hb]
        exact H3
      | true =>
        simp only [↓bt1, ↓bt2, ↓bt3, ↓bt4, ↓nmI_s, ↓nmJ_s, ↓letK_s, ↓nz_0, ↓nz_1, ↓nz_b, not_false_eq_true, not_true_eq_false, true_and, and_true, bI_0, bI_1, imp_tt, imp_ff, ↓w_X4_ends_L25, ↓hv, ↓cv, hi, e1, ↓hl, hb, h10, ↓w_X4_ends_J57]
        refine s_take H3 C3 ok ha (by omega) (hw i hi) (fun h4 H4 F4 => ?_)
        refine hL _ _ ⟨nI_1 i, ?_, F3.trans F4⟩
        rw [pu_e1, hb]
        exact H4
    · rintro _ h3 L ⟨rfl, H3, F3⟩
      have e1 : nI (c_nu C) ≤ nI (c_nu C) := nI_le (Nat.le_refl _) (by omega)
      have C3 := hC.frH F3 hlo
      have cv := C3.v ok
      have hv := H3.v
      simp only [↓bt1, ↓bt2, ↓bt3, ↓bt4, ↓nmI_s, ↓nmJ_s, ↓letK_s, ↓nz_0, ↓nz_1, ↓nz_b, not_false_eq_true, not_true_eq_false, true_and, and_true, bI_0, bI_1, imp_tt, imp_ff, ↓w_X4_ends_L25, ↓hv, ↓cv, e1]
      exact s_e2 H3 C3 ok ha hlo (fun h4 H4 F4 => hK h4 H4 (F3.trans F4))
  have hv := hH.v
  cases r with
  | true =>
    have h10 : ¬ (1 : Int32) = 0 := by decide
    simp only [↓bt1, ↓bt2, ↓bt3, ↓bt4, ↓nmI_s, ↓nmJ_s, ↓letK_s, ↓nz_0, ↓nz_1, ↓nz_b, not_false_eq_true, not_true_eq_false, true_and, and_true, bI_0, bI_1, imp_tt, imp_ff, ↓w_X4_ends, h10]
    exact key _ rfl
  | false =>
    simp only [↓bt1, ↓bt2, ↓bt3, ↓bt4, ↓nmI_s, ↓nmJ_s, ↓letK_s, ↓nz_0, ↓nz_1, ↓nz_b, not_false_eq_true, not_true_eq_false, true_and, and_true, bI_0, bI_1, imp_tt, imp_ff, ↓w_X4_ends, ↓hv]
    exact key _ rfl
end Ends
