set_option maxRecDepth 100000
section Halls2
variable {g : GT} {h : AH} {lo a c : Nat} {C : PC} {A : PA} {d : Int32} {ho ti : List Int32} {E : Nat → AH → Prop}
theorem cpL_5 {xs ys : List Int32} (hx : xs.length = 5) (hy : ys.length = 5) : cpL xs ys 0 0 5 = xs := by
  unfold cpL
  rw [List.take_zero, List.drop_zero, List.nil_append, List.take_of_length_le (by omega), List.drop_of_length_le (by omega), List.append_nil]
theorem cI_v {g : GT} {h : AH} {a b : Nat} {xs ys : List Int32} (hb : g.1 ≤ b) (hx : h.1 a = some (.inl (0, .inl xs))) (hy : h.1 b = some (.inl (0, .inl ys))) {sp dp n : Nat} (h1 : sp + n ≤ xs.length) (h2 : dp + n ≤ ys.length) (hs : xs.length < 2 ^ 31) (hs2 : ys.length < 2 ^ 31) {K : AH → Prop} (k : K (updH h b (.inl (0, .inl (cpL xs ys sp dp n))))) : cI g h (some a) (nI sp) (some b) (nI dp) (nI n) K := by
  refine ⟨a, b, xs, ys, rfl, rfl, hb, hx, hy, nI_pos (by omega), nI_pos (by omega), nI_pos (by omega), ?_, ?_, ?_⟩
  · rw [nI_clamp (by omega), nI_clamp (by omega)]; exact h1
  · rw [nI_clamp (by omega), nI_clamp (by omega)]; exact h2
  · rw [nI_clamp (by omega), nI_clamp (by omega), nI_clamp (by omega)]; exact k
theorem n0 : (0 : Int32) = nI 0 := rfl
theorem n5 : (5 : Int32) = nI 5 := rfl
theorem s_become {b : Nat} {c c' : Option Nat} {d' : Int32} {ho' ti' : List Int32} {K : Unit → AH → Prop} (hH : hallAt h a c d ho ti) (hB : hallAt h b c' d' ho' ti') (ha : g.1 ≤ a) (hab : a + 3 ≤ b ∨ b + 3 ≤ a) (hK : ∀ h', hallAt h' a c' d' ho' ti' → Fr (hallS a) h h' → K () h') : w_X4_become g (some a) (some b) K E h := by
  have nb : ∀ q, q = b ∨ q = b + 1 ∨ q = b + 2 → ¬ hallS a q := by intro q hq; unfold hallS; omega
  have hv := hH.v
  have bv := hB.v
  simp only [↓bt1, ↓bt2, ↓bt3, ↓bt4, ↓nmI_s, ↓nmJ_s, ↓letK_s, ↓nz_0, ↓nz_1, ↓nz_b, not_false_eq_true, not_true_eq_false, true_and, and_true, bI_0, bI_1, imp_tt, imp_ff, ↓w_X4_become, ↓bv]
  refine h_cty hH ha _ (fun h1 H1 F1 => ?_)
  have B1 := hB.fr F1 (nb _ (by omega)) (nb _ (by omega)) (nb _ (by omega))
  have bv1 := B1.v
  simp only [↓bt1, ↓bt2, ↓bt3, ↓bt4, ↓nmI_s, ↓nmJ_s, ↓letK_s, ↓nz_0, ↓nz_1, ↓nz_b, not_false_eq_true, not_true_eq_false, true_and, and_true, bI_0, bI_1, imp_tt, imp_ff, ↓bv1]
  refine h_dry H1 ha _ (fun h2 H2 F2 => ?_)
  have B2 := B1.fr F2 (nb _ (by omega)) (nb _ (by omega)) (nb _ (by omega))
  have bv2 := B2.v
  have hv2 := H2.v
  simp only [↓bt1, ↓bt2, ↓bt3, ↓bt4, ↓nmI_s, ↓nmJ_s, ↓letK_s, ↓nz_0, ↓nz_1, ↓nz_b, not_false_eq_true, not_true_eq_false, true_and, and_true, bI_0, bI_1, imp_tt, imp_ff, ↓bv2, ↓hv2]
  obtain ⟨p1, p2, p3, l1, l2⟩ := H2
  obtain ⟨r1, r2, r3, m1, m2⟩ := B2
  rw [n0, n5]
  refine cI_v (by omega) r2 p2 (by omega) (by omega) (by omega) (by omega) ?_
  rw [cpL_5 m1 l1]
  generalize hh3 : updH h2 (a + 1) (.inl (0, .inl ho')) = h3
  have F3 : Fr (hallS a) h2 h3 := by rw [← hh3]; exact Fr.upd (Or.inr (Or.inl rfl))
  have H3 : hallAt h3 a c' d' ho' ti := by
    rw [← hh3]
    refine ⟨?_, ?_, ?_, m1, l2⟩
    · rw [upd_s, if_neg (by omega)]; exact p1
    · rw [upd_s, if_pos rfl]
    · rw [upd_s, if_neg (by omega)]; exact p3
  have B3 : hallAt h3 b c' d' ho' ti' := hallAt.fr ⟨r1, r2, r3, m1, m2⟩ F3 (nb _ (by omega)) (nb _ (by omega)) (nb _ (by omega))
  have bv3 := B3.v
  have hv3 := H3.v
  simp only [↓bt1, ↓bt2, ↓bt3, ↓bt4, ↓nmI_s, ↓nmJ_s, ↓letK_s, ↓nz_0, ↓nz_1, ↓nz_b, not_false_eq_true, not_true_eq_false, true_and, and_true, bI_0, bI_1, imp_tt, imp_ff, ↓bv3, ↓hv3]
  obtain ⟨p1, p2, p3, l1, l2⟩ := H3
  obtain ⟨r1, r2, r3, m1, m2⟩ := B3
  refine cI_v (by omega) r3 p3 (by omega) (by omega) (by omega) (by omega) ?_
  rw [cpL_5 m2 l2]
  refine hK _ ⟨?_, ?_, ?_, m1, m2⟩ (F1.trans (F2.trans (F3.trans (Fr.upd (Or.inr (Or.inr rfl))))))
  · rw [upd_s, if_neg (by omega)]; exact p1
  · rw [upd_s, if_neg (by omega)]; exact p2
  · rw [upd_s, if_pos rfl]
theorem len_begin (C : PC) (ho ti : List Int32) : ∀ n, (pu_begin C ho ti n).1.length = ho.length ∧ (pu_begin C ho ti n).2.length = ti.length := by
  intro n
  induction n with
  | zero => exact ⟨rfl, rfl⟩
  | succ n ih =>
    unfold pu_begin
    refine ⟨by simp [ih.1], ?_⟩
    dsimp only
    split <;> simp [len_take, ih.2]
theorem s_begin {c' : Option Nat} {K : Unit → AH → Prop} (hH : hallAt h a c' d ho ti) (hC : CW lo h c C A) (ok : okC C) (ha : g.1 ≤ a) (hlo : a + 3 ≤ lo) (hK : ∀ h', hallAt h' a (some c) 0 (pu_begin C ho ti (c_nu C)).1 (pu_begin C ho ti (c_nu C)).2 → Fr (hallS a) h h' → K () h') : w_X4_begin g (some a) (some c) K E h := by
  have hnu : c_nu C ≤ 5 := ok.2.2.2.1
  unfold w_X4_begin
  refine h_cty hH ha _ (fun h1 H1 F1 => ?_)
  refine h_dry H1 ha _ (fun h2 H2 F2 => ?_)
  refine Lp1_for (c_nu C) (fun i a1 h' => a1 = nI i ∧ hallAt h' a (some c) 0 (pu_begin C ho ti i).1 (pu_begin C ho ti i).2 ∧ Fr (hallS a) h h') ?_ ?_ ⟨rfl, H2, F1.trans F2⟩
  · rintro i _ h3 L hi ⟨rfl, H3, F3⟩ hL
    have e1 := nle_s (a := i) (b := c_nu C) hi (by omega)
    have hi5 : i < 5 := by omega
    have C3 := hC.frH F3 hlo
    have cv := C3.v ok
    have hv := H3.v
    simp only [↓bt1, ↓bt2, ↓bt3, ↓bt4, ↓nmI_s, ↓nmJ_s, ↓letK_s, ↓nz_0, ↓nz_1, ↓nz_b, not_false_eq_true, not_true_eq_false, true_and, and_true, bI_0, bI_1, imp_tt, imp_ff, ↓w_X4_begin_L12, ↓hv, ↓cv, hi, e1, hi5]
    refine h_ho H3 ha hi5 _ (fun h4 H4 F4 => ?_)
    have hv := H4.v
    simp only [↓bt1, ↓bt2, ↓bt3, ↓bt4, ↓nmI_s, ↓nmJ_s, ↓letK_s, ↓nz_0, ↓nz_1, ↓nz_b, not_false_eq_true, not_true_eq_false, true_and, and_true, bI_0, bI_1, imp_tt, imp_ff, ↓hv]
    refine h_ti H4 ha hi5 _ (fun h5 H5 F5 => ?_)
    have F5' := F3.trans (F4.trans F5)
    have C5 := hC.frH F5' hlo
    have cv := C5.v ok
    have ht := d_isTitled (g := g) C5 ok hi
    have h10 : ¬ (1 : Int32) = 0 := by decide
    have hv := H5.v
    cases hb : titledP (c_kind C i) with
    | false =>
      simp only [↓bt1, ↓bt2, ↓bt3, ↓bt4, ↓nmI_s, ↓nmJ_s, ↓letK_s, ↓nz_0, ↓nz_1, ↓nz_b, not_false_eq_true, not_true_eq_false, true_and, and_true, bI_0, bI_1, imp_tt, imp_ff, ↓cv, hi, ↓ht, hb, ↓w_X4_begin_J60]
      refine hL _ _ ⟨nI_1 i, ?_, F5'⟩
      have e : (pu_begin C ho ti (i + 1)) = ((pu_begin C ho ti i).1.set i (c_wth C i), (pu_begin C ho ti i).2.set i (-2)) := by
        rw [pu_begin, hb]; rfl
      rw [e]
      exact H5
    | true =>
      simp only [↓bt1, ↓bt2, ↓bt3, ↓bt4, ↓nmI_s, ↓nmJ_s, ↓letK_s, ↓nz_0, ↓nz_1, ↓nz_b, not_false_eq_true, not_true_eq_false, true_and, and_true, bI_0, bI_1, imp_tt, imp_ff, ↓cv, hi, ↓ht, hb, h10, hv, ↓w_X4_begin_J60]
      have hg : ((pu_begin C ho ti i).1.set i (c_wth C i)).getD i 0 = c_wth C i := by
        have := (len_begin C ho ti i).1
        have := H3.2.2.2.1
        rw [List.getD_eq_getElem?_getD, List.getElem?_set_self (by omega)]
        rfl
      refine s_take H5 C5 ok ha hi5 (by rw [hg]; exact ok.2.2.2.2.2.2.2.2.2.2.2.2.2.2.2.2.2.2.2.2.2.2.2.2 i) (fun h6 H6 F6 => ?_)
      refine hL _ _ ⟨nI_1 i, ?_, F5'.trans F6⟩
      have e : (pu_begin C ho ti (i + 1)) = ((pu_begin C ho ti i).1.set i (c_wth C i), pu_take C ((pu_begin C ho ti i).1.set i (c_wth C i)) i ((pu_begin C ho ti i).2.set i (-2))) := by
        rw [pu_begin, hb]; rfl
      rw [e]
      exact H6
  · rintro _ h3 L ⟨rfl, H3, F3⟩
    have e1 : nI (c_nu C) ≤ nI (c_nu C) := nI_le (Nat.le_refl _) (by omega)
    have C3 := hC.frH F3 hlo
    have cv := C3.v ok
    simp only [↓bt1, ↓bt2, ↓bt3, ↓bt4, ↓nmI_s, ↓nmJ_s, ↓letK_s, ↓nz_0, ↓nz_1, ↓nz_b, not_false_eq_true, not_true_eq_false, true_and, and_true, bI_0, bI_1, imp_tt, imp_ff, ↓w_X4_begin_L12, ↓cv, e1]
    exact hK h3 H3 F3
end Halls2
