set_option maxRecDepth 100000
section Twin
variable {g : GT} {h : AH} {lo m c va xa r : Nat} {C : PC} {q : HP} {E : Nat → AH → Prop}
theorem MW.frO {h' : AH} (H : MW lo h c C) (hf : Fr (onlyS r) h h') (hr : r < lo) : MW lo h' c C := H.fr fun b hb => hf.1 b (by unfold onlyS; omega)
theorem mV.frO {h' : AH} (H : mV h m c va xa) (hf : Fr (onlyS r) h h') (hr : m ≠ r) : mV h' m c va xa := H.fr (hf.1 m (by unfold onlyS; omega))
theorem t_onesN {K : Int32 → AH → Prop} : ∀ (n : Nat) (acc x : Int32), zN n x = true → K (pu_onesN n acc x) h → LpN2 (w_X8_bits_L4 g K E) (n + 1) acc x h := by
  intro n
  induction n with
  | zero =>
    intro acc x hz hK
    have e : x = 0 := by simpa [zN] using hz
    show w_X8_bits_L4 g K E _ acc x h
    simp only [↓bt1, ↓bt2, ↓bt3, ↓bt4, ↓nmI_s, ↓nmJ_s, ↓letK_s, ↓nz_0, ↓nz_1, ↓nz_b, not_false_eq_true, not_true_eq_false, true_and, and_true, bI_0, bI_1, imp_tt, imp_ff, ↓w_X8_bits_L4, e]
    exact hK
  | succ n ih =>
    intro acc x hz hK
    show w_X8_bits_L4 g K E _ acc x h
    by_cases e : x = 0
    · rw [pu_onesN, if_pos e] at hK
      simp only [↓bt1, ↓bt2, ↓bt3, ↓bt4, ↓nmI_s, ↓nmJ_s, ↓letK_s, ↓nz_0, ↓nz_1, ↓nz_b, not_false_eq_true, not_true_eq_false, true_and, and_true, bI_0, bI_1, imp_tt, imp_ff, ↓w_X8_bits_L4, ↓bt1 e]
      exact hK
    · rw [pu_onesN, if_neg e] at hK
      simp only [↓bt1, ↓bt2, ↓bt3, ↓bt4, ↓nmI_s, ↓nmJ_s, ↓letK_s, ↓nz_0, ↓nz_1, ↓nz_b, not_false_eq_true, not_true_eq_false, true_and, and_true, bI_0, bI_1, imp_tt, imp_ff, ↓w_X8_bits_L4, ↓bt2 e]
      refine ih _ _ ?_ hK
      rw [zN] at hz
      simpa [e] using hz
theorem t_bits {K : Int32 → AH → Prop} {n : Nat} {x : Int32} (hm : n < 64) (hx : x = nI n) (hK : K (pu_ones x) h) : w_X8_bits g x K E h := ⟨8, t_onesN 7 0 x (by rw [hx]; exact zN_64 n hm) hK⟩
theorem t_hadBy {p : Int32} {K : Int32 → AH → Prop} (hM : mV h m c va xa) (hC : MW lo h c C) (ok : okC C) (hr : rowAt h r q) (hK : K (pu_has q.2.1 p (c_nu C)) h) : w_X8_hadBy g (some m) (some r) p K E h := by
  have mv := hM.v
  have cv := hC.v ok
  have rv := hr.v
  have hnu : c_nu C ≤ 5 := ok.2.2.2.1
  refine Lp2_for (c_nu C) (fun i a1 a2 h' => h' = h ∧ a1 = pu_has q.2.1 p i ∧ a2 = nI i) ?_ ?_ ⟨rfl, rfl, rfl⟩
  · rintro i _ _ _ L hi ⟨rfl, rfl, rfl⟩ hL
    have e1 := nle_s (a := i) (b := c_nu C) hi (by omega)
    have hi5 : i < 5 := by omega
    by_cases hp : q.2.1.getD i 0 = p
    · simp only [↓bt1, ↓bt2, ↓bt3, ↓bt4, ↓nmI_s, ↓nmJ_s, ↓letK_s, ↓nz_0, ↓nz_1, ↓nz_b, not_false_eq_true, not_true_eq_false, true_and, and_true, bI_0, bI_1, imp_tt, imp_ff, ↓w_X8_hadBy_L5, ↓w_X8_hadBy_J36, ↓mv, ↓cv, ↓rv, hi, e1, hi5, hp]
      exact hL _ _ _ ⟨rfl, by simp only [pu_has, hp, if_true], nI_1 i⟩
    · simp only [↓bt1, ↓bt2, ↓bt3, ↓bt4, ↓nmI_s, ↓nmJ_s, ↓letK_s, ↓nz_0, ↓nz_1, ↓nz_b, not_false_eq_true, not_true_eq_false, true_and, and_true, bI_0, bI_1, imp_tt, imp_ff, ↓w_X8_hadBy_L5, ↓w_X8_hadBy_J36, ↓mv, ↓cv, ↓rv, hi, e1, hi5, hp]
      exact hL _ _ _ ⟨rfl, by simp only [pu_has, hp, if_false], nI_1 i⟩
  · rintro _ _ _ L ⟨rfl, rfl, rfl⟩
    have e1 : nI (c_nu C) ≤ nI (c_nu C) := nI_le (Nat.le_refl _) (by omega)
    simp only [↓bt1, ↓bt2, ↓bt3, ↓bt4, ↓nmI_s, ↓nmJ_s, ↓letK_s, ↓nz_0, ↓nz_1, ↓nz_b, not_false_eq_true, not_true_eq_false, true_and, and_true, bI_0, bI_1, imp_tt, imp_ff, ↓w_X8_hadBy_L5, ↓mv, ↓cv, e1, hK]
theorem t_landsIn {p : Int32} {K : Int32 → AH → Prop} (hM : mV h m c va xa) (hC : MW lo h c C) (ok : okC C) (hr : rowAt h r q) (hK : K (pu_lands C q.2.2 p (c_nu C)) h) : w_X8_landsIn g (some m) (some r) p K E h := by
  have mv := hM.v
  have cv := hC.v ok
  have rv := hr.v
  have hnu : c_nu C ≤ 5 := ok.2.2.2.1
  refine Lp2_for (c_nu C) (fun i a1 a2 h' => h' = h ∧ a1 = pu_lands C q.2.2 p i ∧ a2 = nI i) ?_ ?_ ⟨rfl, rfl, rfl⟩
  · rintro i _ _ _ L hi ⟨rfl, rfl, rfl⟩ hL
    have e1 := nle_s (a := i) (b := c_nu C) hi (by omega)
    have hi5 : i < 5 := by omega
    by_cases hp : q.2.2.getD i 0 = p
    · simp only [↓bt1, ↓bt2, ↓bt3, ↓bt4, ↓nmI_s, ↓nmJ_s, ↓letK_s, ↓nz_0, ↓nz_1, ↓nz_b, not_false_eq_true, not_true_eq_false, true_and, and_true, bI_0, bI_1, imp_tt, imp_ff, ↓w_X8_landsIn_L5, ↓w_X8_landsIn_J42, ↓mv, ↓cv, ↓rv, hi, e1, hi5, hp]
      exact hL _ _ _ ⟨rfl, by simp only [pu_lands, hp, if_true], nI_1 i⟩
    · simp only [↓bt1, ↓bt2, ↓bt3, ↓bt4, ↓nmI_s, ↓nmJ_s, ↓letK_s, ↓nz_0, ↓nz_1, ↓nz_b, not_false_eq_true, not_true_eq_false, true_and, and_true, bI_0, bI_1, imp_tt, imp_ff, ↓w_X8_landsIn_L5, ↓w_X8_landsIn_J42, ↓mv, ↓cv, ↓rv, hi, e1, hi5, hp]
      exact hL _ _ _ ⟨rfl, by simp only [pu_lands, hp, if_false], nI_1 i⟩
  · rintro _ _ _ L ⟨rfl, rfl, rfl⟩
    have e1 : nI (c_nu C) ≤ nI (c_nu C) := nI_le (Nat.le_refl _) (by omega)
    simp only [↓bt1, ↓bt2, ↓bt3, ↓bt4, ↓nmI_s, ↓nmJ_s, ↓letK_s, ↓nz_0, ↓nz_1, ↓nz_b, not_false_eq_true, not_true_eq_false, true_and, and_true, bI_0, bI_1, imp_tt, imp_ff, ↓w_X8_landsIn_L5, ↓mv, ↓cv, e1, hK]
/-- a child can't hold a title -/
theorem t_isChild {p : Nat} {K : Int32 → AH → Prop} (hM : mV h m c va xa) (hC : MW lo h c C) (ok : okC C) (hp : p < c_np C) (hK : K (bI (!canP (c_sort C p))) h) : w_X8_isChild g (some m) (nI p) K E h := by
  have mv := hM.v
  have cv := hC.v ok
  have hs : c_sort C p < 3 := ok.2.2.2.2.2.2.2.2.2.2.1 p
  by_cases e : c_sort C p = 1
  · have e2 : nI (c_sort C p) = 1 := by rw [e]; rfl
    have e3 : (!canP (c_sort C p)) = true := by rw [e]; rfl
    rw [e3] at hK
    simp only [↓bt1, ↓bt2, ↓bt3, ↓bt4, ↓nmI_s, ↓nmJ_s, ↓letK_s, ↓nz_0, ↓nz_1, ↓nz_b, not_false_eq_true, not_true_eq_false, true_and, and_true, bI_0, bI_1, imp_tt, imp_ff, ↓w_X8_isChild, ↓mv, ↓cv, hp, e2]
    exact hK
  · have e2 : ¬ nI (c_sort C p) = 1 := fun z => e ((nI_eq (a := c_sort C p) (b := 1) (by omega) (by omega)).mp z)
    have e3 : (!canP (c_sort C p)) = false := by unfold canP; simp [e]
    rw [e3] at hK
    simp only [↓bt1, ↓bt2, ↓bt3, ↓bt4, ↓nmI_s, ↓nmJ_s, ↓letK_s, ↓nz_0, ↓nz_1, ↓nz_b, not_false_eq_true, not_true_eq_false, true_and, and_true, bI_0, bI_1, imp_tt, imp_ff, ↓w_X8_isChild, ↓mv, ↓cv, hp, e2]
    exact hK
theorem t_lapses {K : Unit → AH → Prop} (hM : mV h m c va xa) (hC : MW lo h c C) (ok : okC C) (hr : rowAt h r q) (ha : g.1 ≤ r) (hlo : r < lo) (hm : m ≠ r) (hK : ∀ h', rowAt h' r (q.1, q.2.1, pu_e2 C q.2.2 (c_nu C)) → Fr (onlyS r) h h' → K () h') : w_X8_lapses g (some m) (some r) K E h := by
  have hnu : c_nu C ≤ 5 := ok.2.2.2.1
  refine Lp1_for (c_nu C) (fun i a1 h' => a1 = nI i ∧ rowAt h' r (q.1, q.2.1, pu_e2 C q.2.2 i) ∧ Fr (onlyS r) h h') ?_ ?_ ⟨rfl, hr, Fr.rfl⟩
  · rintro i _ h3 L hi ⟨rfl, H3, F3⟩ hL
    have e1 := nle_s (a := i) (b := c_nu C) hi (by omega)
    have mv := (hM.frO F3 hm).v
    have cv := (hC.frO F3 hlo).v ok
    by_cases e : c_kind C i = 0
    · have e2 : nI (c_kind C i) = 0 := by rw [e]; rfl
      have e3 : lapseP (c_kind C i) = false := by rw [e]; rfl
      simp only [↓bt1, ↓bt2, ↓bt3, ↓bt4, ↓nmI_s, ↓nmJ_s, ↓letK_s, ↓nz_0, ↓nz_1, ↓nz_b, not_false_eq_true, not_true_eq_false, true_and, and_true, bI_0, bI_1, imp_tt, imp_ff, ↓w_X8_lapses_L2, ↓w_X8_lapses_J32, ↓mv, ↓cv, hi, e1, e2]
      refine hL _ _ ⟨nI_1 i, ?_, F3⟩
      rw [pu_e2, e3]
      exact H3
    · have hk4 := k4 ok i
      have e2 : ¬ nI (c_kind C i) = 0 := fun z => e ((nI_eq (a := c_kind C i) (b := 0) (by omega) (by omega)).mp z)
      have e3 : lapseP (c_kind C i) = true := by unfold lapseP; simp [e]
      simp only [↓bt1, ↓bt2, ↓bt3, ↓bt4, ↓nmI_s, ↓nmJ_s, ↓letK_s, ↓nz_0, ↓nz_1, ↓nz_b, not_false_eq_true, not_true_eq_false, true_and, and_true, bI_0, bI_1, imp_tt, imp_ff, ↓w_X8_lapses_L2, ↓w_X8_lapses_J32, ↓mv, ↓cv, hi, e1, e2]
      refine r_ti H3 ha (by omega) _ (fun h4 H4 F4 => ?_)
      refine hL _ _ ⟨nI_1 i, ?_, F3.trans F4⟩
      rw [pu_e2, e3]
      exact H4
  · rintro _ h3 L ⟨rfl, H3, F3⟩
    have e1 : nI (c_nu C) ≤ nI (c_nu C) := nI_le (Nat.le_refl _) (by omega)
    have mv := (hM.frO F3 hm).v
    have cv := (hC.frO F3 hlo).v ok
    simp only [↓bt1, ↓bt2, ↓bt3, ↓bt4, ↓nmI_s, ↓nmJ_s, ↓letK_s, ↓nz_0, ↓nz_1, ↓nz_b, not_false_eq_true, not_true_eq_false, true_and, and_true, bI_0, bI_1, imp_tt, imp_ff, ↓w_X8_lapses_L2, ↓mv, ↓cv, e1]
    exact hK h3 H3 F3
def oJ (o : Option Nat) : Int32 := match o with
  | some b => nI b
  | none => -1
theorem t_forgets {p : Int32} {K : Unit → AH → Prop} (hM : mV h m c va xa) (hC : MW lo h c C) (ok : okC C) (hr : rowAt h r q) (ha : g.1 ≤ r) (hK : ∀ h', rowAt h' r (q.1, pu_leave C q.2.1 p, q.2.2) → Fr (onlyS r) h h' → K () h') : w_X8_forgets g (some m) (some r) p K E h := by
  have mv := hM.v
  have cv := hC.v ok
  have rv := hr.v
  have hnu : c_nu C ≤ 5 := ok.2.2.2.1
  obtain ⟨n, hn, hx⟩ := pu_has_m q.2.1 p hnu
  have n2 : ∀ b : Nat, b < 5 → (nI b = (-1)) = False := by
    intro b hb
    have : ∀ q : Nat, q < 5 → ¬ nI q = (-1) := by decide
    exact eq_false (this b hb)
  unfold w_X8_forgets
  refine ⟨by rw [mv.2.2.2]; trivial, t_hadBy hM hC ok hr (t_bits hn hx ?_)⟩
  by_cases h2 : 2 ≤ pu_ones (pu_has q.2.1 p (c_nu C))
  · rw [bt1 h2]
    refine Lp2_for (c_nu C) (fun i a1 a2 h' => h' = h ∧ a1 = oJ (pu_best C q.2.1 p i) ∧ a2 = nI i) ?_ ?_ ⟨rfl, rfl, rfl⟩
    · rintro i _ _ _ L hi ⟨rfl, rfl, rfl⟩ hL
      have e1 := nle_s (a := i) (b := c_nu C) hi (by omega)
      have hi5 : i < 5 := by omega
      by_cases hp : q.2.1.getD i 0 = p
      · cases hq : pu_best C q.2.1 p i with
        | none =>
          have e2 : oJ (none : Option Nat) = (-1) := rfl
          simp only [↓bt1, ↓bt2, ↓bt3, ↓bt4, ↓nmI_s, ↓nmJ_s, ↓letK_s, ↓nz_0, ↓nz_1, ↓nz_b, not_false_eq_true, not_true_eq_false, true_and, and_true, bI_0, bI_1, imp_tt, imp_ff, ↓w_X8_forgets_L19, ↓w_X8_forgets_J71, ↓w_X8_forgets_J74, ↓mv, ↓cv, ↓rv, hi, hi5, e1, hp, e2]
          refine hL _ _ _ ⟨rfl, ?_, nI_1 i⟩
          rw [pu_best, if_pos hp, hq]
          rfl
        | some b =>
          have hb := (pu_best_lt C q.2.1 p i b hq).1
          have hbn : b < c_nu C := by omega
          have e2 : oJ (some b) = nI b := rfl
          have e3 := n2 b (by omega)
          by_cases hl : c_lands C b ≤ c_lands C i
          · simp only [↓bt1, ↓bt2, ↓bt3, ↓bt4, ↓nmI_s, ↓nmJ_s, ↓letK_s, ↓nz_0, ↓nz_1, ↓nz_b, not_false_eq_true, not_true_eq_false, true_and, and_true, bI_0, bI_1, imp_tt, imp_ff, ↓w_X8_forgets_L19, ↓w_X8_forgets_J71, ↓w_X8_forgets_J74, ↓mv, ↓cv, ↓rv, hi, hi5, e1, hp, e2, e3, hbn, nIlands ok, hl]
            refine hL _ _ _ ⟨rfl, ?_, nI_1 i⟩
            rw [pu_best, if_pos hp, hq]
            dsimp only
            rw [if_neg (by omega)]
            rfl
          · simp only [↓bt1, ↓bt2, ↓bt3, ↓bt4, ↓nmI_s, ↓nmJ_s, ↓letK_s, ↓nz_0, ↓nz_1, ↓nz_b, not_false_eq_true, not_true_eq_false, true_and, and_true, bI_0, bI_1, imp_tt, imp_ff, ↓w_X8_forgets_L19, ↓w_X8_forgets_J71, ↓w_X8_forgets_J74, ↓mv, ↓cv, ↓rv, hi, hi5, e1, hp, e2, e3, hbn, nIlands ok, hl]
            refine hL _ _ _ ⟨rfl, ?_, nI_1 i⟩
            rw [pu_best, if_pos hp, hq]
            dsimp only
            rw [if_pos (by omega)]
            rfl
      · simp only [↓bt1, ↓bt2, ↓bt3, ↓bt4, ↓nmI_s, ↓nmJ_s, ↓letK_s, ↓nz_0, ↓nz_1, ↓nz_b, not_false_eq_true, not_true_eq_false, true_and, and_true, bI_0, bI_1, imp_tt, imp_ff, ↓w_X8_forgets_L19, ↓w_X8_forgets_J71, ↓w_X8_forgets_J74, ↓mv, ↓cv, ↓rv, hi, hi5, e1, ↓bt2 hp]
        refine hL _ _ _ ⟨rfl, ?_, nI_1 i⟩
        rw [pu_best, if_neg hp]
    · rintro _ _ _ L ⟨rfl, rfl, rfl⟩
      have e1 : nI (c_nu C) ≤ nI (c_nu C) := nI_le (Nat.le_refl _) (by omega)
      cases hq : pu_best C q.2.1 p (c_nu C) with
      | none =>
        exfalso
        rw [pu_best_none C q.2.1 p _ hq] at h2
        exact absurd h2 (by decide)
      | some b =>
        have hb := (pu_best_lt C q.2.1 p _ b hq).1
        have e2 : oJ (some b) = nI b := rfl
        simp only [↓bt1, ↓bt2, ↓bt3, ↓bt4, ↓nmI_s, ↓nmJ_s, ↓letK_s, ↓nz_0, ↓nz_1, ↓nz_b, not_false_eq_true, not_true_eq_false, true_and, and_true, bI_0, bI_1, imp_tt, imp_ff, ↓w_X8_forgets_L19, ↓mv, ↓cv, e1, e2]
        refine r_ho hr ha (by omega) _ ?_
        have e3 : pu_leave C q.2.1 p = q.2.1.set b (-2) := by unfold pu_leave; rw [if_pos h2, hq]
        rw [e3] at hK
        exact hK
  · rw [bt2 h2]
    have e3 : pu_leave C q.2.1 p = q.2.1 := by unfold pu_leave; rw [if_neg h2]
    rw [e3] at hK
    exact hK h hr Fr.rfl
end Twin
