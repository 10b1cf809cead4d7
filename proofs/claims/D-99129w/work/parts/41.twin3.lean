set_option maxRecDepth 100000
/-- dry days are few -/
def okD (d : Int32) : Prop := ∃ n, n ≤ 30 ∧ d = nI n
theorem okD.dry {d : Int32} (H : okD d) (r : Bool) : okD (pu_dry r d) := by
  obtain ⟨n, hn, rfl⟩ := H
  unfold pu_dry
  cases r with
  | true => exact ⟨0, by omega, rfl⟩
  | false =>
    show okD (if nI n + 1 < 30 then nI n + 1 else 30)
    split
    · rename_i e
      rw [nI_1] at e ⊢
      exact ⟨n + 1, by have := (nI_ltI (a := n + 1) (b := 30) (by omega) (by omega)).mp e; omega, rfl⟩
    · exact ⟨30, by omega, rfl⟩
section Twin3
variable {g : GT} {h : AH} {lo m c va xa r : Nat} {C : PC} {q : HP} {E : Nat → AH → Prop}
theorem t_e3 {K : Unit → AH → Prop} (hM : mV h m c va xa) (hC : MW lo h c C) (ok : okC C) (hr : rowAt h r q) (ha : g.1 ≤ r) (hlo : r < lo) (hm : m ≠ r) (hK : ∀ h', rowAt h' r (q.1, pu_e3 C q.2.1 (c_np C), q.2.2) → Fr (onlyS r) h h' → K () h') : w_X8_ends_J151 g (some m) (some r) K E h := by
  have hnp : c_np C ≤ 6 := ok.2.1
  unfold w_X8_ends_J151
  refine Lp1_for (c_np C) (fun i a1 h' => a1 = nI i ∧ rowAt h' r (q.1, pu_e3 C q.2.1 i, q.2.2) ∧ Fr (onlyS r) h h') ?_ ?_ ⟨rfl, hr, Fr.rfl⟩
  · rintro i _ h3 L hi ⟨rfl, H3, F3⟩ hL
    have e1 := nle_s (a := i) (b := c_np C) hi (by omega)
    have M3 := hM.frO F3 hm
    have C3 := hC.frO F3 hlo
    have mv := M3.v
    have cv := C3.v ok
    have hs : c_sort C i < 3 := ok.2.2.2.2.2.2.2.2.2.2.1 i
    by_cases e : c_sort C i = 2
    · have e2 : nI (c_sort C i) = 2 := by rw [e]; rfl
      have e3 : leaveP (c_sort C i) = true := by rw [e]; rfl
      simp only [↓bt1, ↓bt2, ↓bt3, ↓bt4, ↓nmI_s, ↓nmJ_s, ↓letK_s, ↓nz_0, ↓nz_1, ↓nz_b, not_false_eq_true, not_true_eq_false, true_and, and_true, bI_0, bI_1, imp_tt, imp_ff, ↓w_X8_ends_L153, ↓w_X8_ends_J183, mv, ↓mv, ↓cv, hi, e1, e2]
      refine t_forgets M3 C3 ok H3 ha (fun h4 H4 F4 => ?_)
      refine hL _ _ ⟨nI_1 i, ?_, F3.trans F4⟩
      rw [pu_e3, e3]
      exact H4
    · have e2 : ¬ nI (c_sort C i) = 2 := fun z => e ((nI_eq (a := c_sort C i) (b := 2) (by omega) (by omega)).mp z)
      have e3 : leaveP (c_sort C i) = false := by unfold leaveP; simp [e]
      simp only [↓bt1, ↓bt2, ↓bt3, ↓bt4, ↓nmI_s, ↓nmJ_s, ↓letK_s, ↓nz_0, ↓nz_1, ↓nz_b, not_false_eq_true, not_true_eq_false, true_and, and_true, bI_0, bI_1, imp_tt, imp_ff, ↓w_X8_ends_L153, ↓w_X8_ends_J183, ↓mv, ↓cv, hi, e1, e2]
      refine hL _ _ ⟨nI_1 i, ?_, F3⟩
      rw [pu_e3, e3]
      exact H3
  · rintro _ h3 L ⟨rfl, H3, F3⟩
    have e1 : nI (c_np C) ≤ nI (c_np C) := nI_le (Nat.le_refl _) (by omega)
    have mv := (hM.frO F3 hm).v
    have cv := (hC.frO F3 hlo).v ok
    simp only [↓bt1, ↓bt2, ↓bt3, ↓bt4, ↓nmI_s, ↓nmJ_s, ↓letK_s, ↓nz_0, ↓nz_1, ↓nz_b, not_false_eq_true, not_true_eq_false, true_and, and_true, bI_0, bI_1, imp_tt, imp_ff, ↓w_X8_ends_L153, ↓mv, ↓cv, e1]
    exact hK h3 H3 F3
theorem t_J132 {K : Unit → AH → Prop} (hM : mV h m c va xa) (hC : MW lo h c C) (ok : okC C) (hr : rowAt h r q) (ha : g.1 ≤ r) (hlo : r < lo) (hm : m ≠ r) (hK : ∀ h', rowAt h' r (q.1, pu_e3 C q.2.1 (c_np C), if nI (c_lapse C) ≤ q.1 then pu_e2 C q.2.2 (c_nu C) else q.2.2) → Fr (onlyS r) h h' → K () h') : w_X8_ends_J132 g (some m) (some r) K E h := by
  have mv := hM.v
  have cv := hC.v ok
  have rv := hr.v
  by_cases hd : nI (c_lapse C) ≤ q.1
  · rw [if_pos hd] at hK
    have hd' : ¬ q.1 < nI (c_lapse C) := Int32.not_lt.mpr hd
    simp only [↓bt1, ↓bt2, ↓bt3, ↓bt4, ↓nmI_s, ↓nmJ_s, ↓letK_s, ↓nz_0, ↓nz_1, ↓nz_b, not_false_eq_true, not_true_eq_false, true_and, and_true, bI_0, bI_1, imp_tt, imp_ff, ↓w_X8_ends_J132, mv, ↓mv, ↓cv, ↓rv, hd']
    refine t_lapses hM hC ok hr ha hlo hm (fun h1 H1 F1 => ?_)
    exact t_e3 (hM.frO F1 hm) (hC.frO F1 hlo) ok H1 ha hlo hm (fun h2 H2 F2 => hK h2 H2 (F1.trans F2))
  · rw [if_neg hd] at hK
    have hd' : q.1 < nI (c_lapse C) := Int32.not_le.mp hd
    simp only [↓bt1, ↓bt2, ↓bt3, ↓bt4, ↓nmI_s, ↓nmJ_s, ↓letK_s, ↓nz_0, ↓nz_1, ↓nz_b, not_false_eq_true, not_true_eq_false, true_and, and_true, bI_0, bI_1, imp_tt, imp_ff, ↓w_X8_ends_J132, ↓mv, ↓cv, ↓rv, hd']
    exact t_e3 hM hC ok hr ha hlo hm hK
theorem t_ends {b : Bool} {K : Unit → AH → Prop} (hM : mV h m c va xa) (hC : MW lo h c C) (ok : okC C) (hr : rowAt h r q) (ha : g.1 ≤ r) (hlo : r < lo) (hm : m ≠ r) (hw : okH C q.2.1) (hd : okD q.1) (hK : ∀ h', rowAt h' r (pu_ends C b q) → Fr (onlyS r) h h' → K () h') : w_X8_ends g (some m) (some r) (bI b) K E h := by
  have hnu : c_nu C ≤ 5 := ok.2.2.2.1
  have np6 : c_np C ≤ 6 := ok.2.1
  have h10 : ¬ (1 : Int32) = 0 := by decide
  unfold w_X8_ends
  refine Lp1_for (c_nu C) (fun i a1 h' => a1 = nI i ∧ rowAt h' r (q.1, q.2.1, pu_e1 C b q.2.1 q.2.2 i) ∧ Fr (onlyS r) h h') ?_ ?_ ⟨rfl, hr, Fr.rfl⟩
  · rintro i _ h3 L hi ⟨rfl, H3, F3⟩ hL
    have e1 := nle_s (a := i) (b := c_nu C) hi (by omega)
    have hi5 : i < 5 := by omega
    have M3 := hM.frO F3 hm
    have C3 := hC.frO F3 hlo
    have mv := M3.v
    have cv := C3.v ok
    have rv := H3.v
    have no : passP (c_kind C i) b = false → L (nI (i + 1)) h3 := by
      intro hp
      refine hL _ _ ⟨rfl, ?_, F3⟩
      rw [pu_e1, hp]
      exact H3
    have yes : passP (c_kind C i) b = true → w_X8_ends_J67 g (some m) (some r) (bI b) (nI i) (q.2.1.getD i 0) 1 K E L h3 := by
      intro hp
      have fin : ∀ h4, rowAt h4 r (q.1, q.2.1, pu_take C q.2.1 i (pu_e1 C b q.2.1 q.2.2 i)) → Fr (onlyS r) h3 h4 → L (nI (i + 1)) h4 := by
        intro h4 H4 F4
        refine hL _ _ ⟨rfl, ?_, F3.trans F4⟩
        rw [pu_e1, hp]
        exact H4
      rcases hw i hi with hx | ⟨p, hp2, hx⟩
      · have ee : pu_take C q.2.1 i (pu_e1 C b q.2.1 q.2.2 i) = pu_e1 C b q.2.1 q.2.2 i := by unfold pu_take; rw [if_pos hx]
        rw [ee] at fin
        simp only [↓bt1, ↓bt2, ↓bt3, ↓bt4, ↓nmI_s, ↓nmJ_s, ↓letK_s, ↓nz_0, ↓nz_1, ↓nz_b, not_false_eq_true, not_true_eq_false, true_and, and_true, bI_0, bI_1, imp_tt, imp_ff, ↓w_X8_ends_J67, ↓w_X8_ends_J97, h10, hx]
        rw [nI_1 i]
        exact fin h3 H3 Fr.rfl
      · have hn2 : ¬ nI p = (-2) := by
          have : ∀ q : Nat, q < 6 → ¬ nI q = (-2) := by decide
          exact this p (by omega)
        have hcl : (nI p).toNatClampNeg = p := nI_clamp (by omega)
        simp only [↓bt1, ↓bt2, ↓bt3, ↓bt4, ↓nmI_s, ↓nmJ_s, ↓letK_s, ↓nz_0, ↓nz_1, ↓nz_b, not_false_eq_true, not_true_eq_false, true_and, and_true, bI_0, bI_1, imp_tt, imp_ff, ↓w_X8_ends_J67, ↓w_X8_ends_J97, h10, hx, hn2, mv]
        refine t_isChild M3 C3 ok hp2 ?_
        cases hb : canP (c_sort C p) with
        | true =>
          have ee : pu_take C q.2.1 i (pu_e1 C b q.2.1 q.2.2 i) = (pu_e1 C b q.2.1 q.2.2 i).set i (nI p) := by unfold pu_take; rw [hx, if_neg hn2, hcl, hb]; rfl
          rw [ee] at fin
          simp only [↓bt1, ↓bt2, ↓bt3, ↓bt4, ↓nmI_s, ↓nmJ_s, ↓letK_s, ↓nz_0, ↓nz_1, ↓nz_b, not_false_eq_true, not_true_eq_false, true_and, and_true, bI_0, bI_1, imp_tt, imp_ff, Bool.not_true]
          refine r_ti H3 ha hi5 _ (fun h4 H4 F4 => ?_)
          rw [nI_1 i]
          exact fin h4 H4 F4
        | false =>
          have ee : pu_take C q.2.1 i (pu_e1 C b q.2.1 q.2.2 i) = pu_e1 C b q.2.1 q.2.2 i := by unfold pu_take; rw [hx, if_neg hn2, hcl, hb]; rfl
          rw [ee] at fin
          simp only [↓bt1, ↓bt2, ↓bt3, ↓bt4, ↓nmI_s, ↓nmJ_s, ↓letK_s, ↓nz_0, ↓nz_1, ↓nz_b, not_false_eq_true, not_true_eq_false, true_and, and_true, bI_0, bI_1, imp_tt, imp_ff, Bool.not_false, h10]
          rw [nI_1 i]
          exact fin h3 H3 Fr.rfl
    have no' : passP (c_kind C i) b = false → w_X8_ends_J67 g (some m) (some r) (bI b) (nI i) (q.2.1.getD i 0) 0 K E L h3 := by
      intro hp
      have := no hp
      rw [← nI_1 i] at this
      simp only [↓bt1, ↓bt2, ↓bt3, ↓bt4, ↓nmI_s, ↓nmJ_s, ↓letK_s, ↓nz_0, ↓nz_1, ↓nz_b, not_false_eq_true, not_true_eq_false, true_and, and_true, bI_0, bI_1, imp_tt, imp_ff, ↓w_X8_ends_J67, ↓w_X8_ends_J97]
      exact this
    rcases k4 ok i with e | e | e | e
    · have e2 : nI (c_kind C i) = 0 := by rw [e]; rfl
      have a1 : ¬ (0 : Int32) = 3 := by decide
      have a2 : ¬ (0 : Int32) = 2 := by decide
      cases b with
      | true =>
        simp only [↓bt1, ↓bt2, ↓bt3, ↓bt4, ↓nmI_s, ↓nmJ_s, ↓letK_s, ↓nz_0, ↓nz_1, ↓nz_b, not_false_eq_true, not_true_eq_false, true_and, and_true, bI_0, bI_1, imp_tt, imp_ff, ↓w_X8_ends_L2, ↓w_X8_ends_J66, ↓mv, ↓cv, ↓rv, hi, hi5, e1, e2, a1, a2, h10]
        exact yes (by rw [e]; rfl)
      | false =>
        simp only [↓bt1, ↓bt2, ↓bt3, ↓bt4, ↓nmI_s, ↓nmJ_s, ↓letK_s, ↓nz_0, ↓nz_1, ↓nz_b, not_false_eq_true, not_true_eq_false, true_and, and_true, bI_0, bI_1, imp_tt, imp_ff, ↓w_X8_ends_L2, ↓w_X8_ends_J66, ↓mv, ↓cv, ↓rv, hi, hi5, e1, e2, a1, a2, h10]
        exact no' (by rw [e]; rfl)
    · have e2 : nI (c_kind C i) = 1 := by rw [e]; rfl
      have a1 : ¬ (1 : Int32) = 3 := by decide
      have a2 : ¬ (1 : Int32) = 2 := by decide
      cases b with
      | true =>
        simp only [↓bt1, ↓bt2, ↓bt3, ↓bt4, ↓nmI_s, ↓nmJ_s, ↓letK_s, ↓nz_0, ↓nz_1, ↓nz_b, not_false_eq_true, not_true_eq_false, true_and, and_true, bI_0, bI_1, imp_tt, imp_ff, ↓w_X8_ends_L2, ↓w_X8_ends_J66, ↓mv, ↓cv, ↓rv, hi, hi5, e1, e2, a1, a2, h10]
        exact yes (by rw [e]; rfl)
      | false =>
        simp only [↓bt1, ↓bt2, ↓bt3, ↓bt4, ↓nmI_s, ↓nmJ_s, ↓letK_s, ↓nz_0, ↓nz_1, ↓nz_b, not_false_eq_true, not_true_eq_false, true_and, and_true, bI_0, bI_1, imp_tt, imp_ff, ↓w_X8_ends_L2, ↓w_X8_ends_J66, ↓mv, ↓cv, ↓rv, hi, hi5, e1, e2, a1, a2, h10]
        exact no' (by rw [e]; rfl)
    · have e2 : nI (c_kind C i) = 2 := by rw [e]; rfl
      have a1 : ¬ (2 : Int32) = 3 := by decide
      cases b with
      | true =>
        simp only [↓bt1, ↓bt2, ↓bt3, ↓bt4, ↓nmI_s, ↓nmJ_s, ↓letK_s, ↓nz_0, ↓nz_1, ↓nz_b, not_false_eq_true, not_true_eq_false, true_and, and_true, bI_0, bI_1, imp_tt, imp_ff, ↓w_X8_ends_L2, ↓w_X8_ends_J66, ↓mv, ↓cv, ↓rv, hi, hi5, e1, e2, a1, h10]
        exact no' (by rw [e]; rfl)
      | false =>
        simp only [↓bt1, ↓bt2, ↓bt3, ↓bt4, ↓nmI_s, ↓nmJ_s, ↓letK_s, ↓nz_0, ↓nz_1, ↓nz_b, not_false_eq_true, not_true_eq_false, true_and, and_true, bI_0, bI_1, imp_tt, imp_ff, ↓w_X8_ends_L2, ↓w_X8_ends_J66, ↓mv, ↓cv, ↓rv, hi, hi5, e1, e2, a1, h10]
        exact no' (by rw [e]; rfl)
    · have e2 : nI (c_kind C i) = 3 := by rw [e]; rfl
      cases b with
      | true =>
        simp only [↓bt1, ↓bt2, ↓bt3, ↓bt4, ↓nmI_s, ↓nmJ_s, ↓letK_s, ↓nz_0, ↓nz_1, ↓nz_b, not_false_eq_true, not_true_eq_false, true_and, and_true, bI_0, bI_1, imp_tt, imp_ff, ↓w_X8_ends_L2, ↓w_X8_ends_J66, ↓mv, ↓cv, ↓rv, hi, hi5, e1, e2, h10]
        exact no' (by rw [e]; rfl)
      | false =>
        simp only [↓bt1, ↓bt2, ↓bt3, ↓bt4, ↓nmI_s, ↓nmJ_s, ↓letK_s, ↓nz_0, ↓nz_1, ↓nz_b, not_false_eq_true, not_true_eq_false, true_and, and_true, bI_0, bI_1, imp_tt, imp_ff, ↓w_X8_ends_L2, ↓w_X8_ends_J66, ↓mv, ↓cv, ↓rv, hi, hi5, e1, e2, h10]
        exact yes (by rw [e]; rfl)
  · rintro _ h3 L ⟨rfl, H3, F3⟩
    have e1 : nI (c_nu C) ≤ nI (c_nu C) := nI_le (Nat.le_refl _) (by omega)
    have M3 := hM.frO F3 hm
    have C3 := hC.frO F3 hlo
    have mv := M3.v
    have cv := C3.v ok
    have rv := H3.v
    obtain ⟨n, hn, hq1⟩ := hd
    cases b with
    | true =>
      simp only [↓bt1, ↓bt2, ↓bt3, ↓bt4, ↓nmI_s, ↓nmJ_s, ↓letK_s, ↓nz_0, ↓nz_1, ↓nz_b, not_false_eq_true, not_true_eq_false, true_and, and_true, bI_0, bI_1, imp_tt, imp_ff, ↓w_X8_ends_L2, ↓mv, ↓cv, e1, h10]
      refine r_dr H3 ha _ (fun h4 H4 F4 => ?_)
      exact t_J132 (M3.frO F4 hm) (C3.frO F4 hlo) ok H4 ha hlo hm (fun h5 H5 F5 => hK h5 H5 (F3.trans (F4.trans F5)))
    | false =>
      by_cases h30 : n = 30
      · have e3 : (30 : Int32) ≤ q.1 := by rw [hq1, h30]; decide
        have e4 : pu_dry false q.1 = q.1 := by rw [hq1, h30]; rfl
        unfold pu_ends at hK
        rw [e4] at hK
        simp only [↓bt1, ↓bt2, ↓bt3, ↓bt4, ↓nmI_s, ↓nmJ_s, ↓letK_s, ↓nz_0, ↓nz_1, ↓nz_b, not_false_eq_true, not_true_eq_false, true_and, and_true, bI_0, bI_1, imp_tt, imp_ff, ↓w_X8_ends_L2, ↓mv, ↓cv, ↓rv, e1, e3]
        exact t_J132 M3 C3 ok H3 ha hlo hm (fun h5 H5 F5 => hK h5 H5 (F3.trans F5))
      · have e3 : ¬ (30 : Int32) ≤ q.1 := by
          rw [hq1]
          exact nI_ge (a := n) (b := 30) (by omega) (by omega)
        have e4 : pu_dry false q.1 = q.1 + 1 := by
          rw [hq1]
          have : ∀ n : Nat, n < 30 → pu_dry false (nI n) = nI n + 1 := by decide
          exact this n (by omega)
        unfold pu_ends at hK
        rw [e4] at hK
        simp only [↓bt1, ↓bt2, ↓bt3, ↓bt4, ↓nmI_s, ↓nmJ_s, ↓letK_s, ↓nz_0, ↓nz_1, ↓nz_b, not_false_eq_true, not_true_eq_false, true_and, and_true, bI_0, bI_1, imp_tt, imp_ff, ↓w_X8_ends_L2, ↓mv, ↓cv, ↓rv, e1, e3]
        refine r_dr H3 ha _ (fun h4 H4 F4 => ?_)
        exact t_J132 (M3.frO F4 hm) (C3.frO F4 hlo) ok H4 ha hlo hm (fun h5 H5 F5 => hK h5 H5 (F3.trans (F4.trans F5)))
theorem t_changes {u v : Nat} {K : Unit → AH → Prop} (hr : rowAt h r q) (ha : g.1 ≤ r) (hu : u < 5) (hw : v < 5) (hK : ∀ h', rowAt h' r (q.1, pu_swap q.2.1 u v, q.2.2) → Fr (onlyS r) h h' → K () h') : w_X8_changes g (some r) (nI u) (nI v) K E h := by
  have rv := hr.v
  simp only [↓bt1, ↓bt2, ↓bt3, ↓bt4, ↓nmI_s, ↓nmJ_s, ↓letK_s, ↓nz_0, ↓nz_1, ↓nz_b, not_false_eq_true, not_true_eq_false, true_and, and_true, bI_0, bI_1, imp_tt, imp_ff, ↓w_X8_changes, ↓rv, hu, hw]
  refine r_ho hr ha hu _ (fun h1 H1 F1 => ?_)
  exact r_ho H1 ha hw _ (fun h2 H2 F2 => hK h2 H2 (F1.trans F2))
end Twin3
