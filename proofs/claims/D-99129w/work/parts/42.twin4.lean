set_option maxRecDepth 100000
/-- a county's beginning: as told, nothing beyond its umbrellas -/
def pu_t0 (C : PC) (u : Nat) : Int32 := if c_wth C u = (-2) then -2 else if c_kind C u = 2 then -2 else if canP (c_sort C (c_wth C u).toNatClampNeg) then c_wth C u else -2
def pu_st (C : PC) : HP := (0, (List.range 5).map (fun u => if u < c_nu C then c_wth C u else -2), (List.range 5).map (fun u => if u < c_nu C then pu_t0 C u else -2))
theorem range5 (f : Nat → Int32) {u : Nat} (hu : u < 5) : ((List.range 5).map f).getD u 0 = f u := by
  rw [List.getD_eq_getElem?_getD, List.getElem?_map, List.getElem?_range hu]
  rfl
theorem list5 {xs : List Int32} {f : Nat → Int32} (hl : xs.length = 5) (h : ∀ u, u < 5 → xs.getD u 0 = f u) : xs = (List.range 5).map f := by
  apply List.ext_getElem?
  intro i
  by_cases hi : i < 5
  · have h1 := h i hi
    rw [List.getD_eq_getElem?_getD] at h1
    rw [List.getElem?_map, List.getElem?_range hi]
    rw [List.getElem?_eq_getElem (by omega)] at h1 ⊢
    exact congrArg some h1
  · rw [List.getElem?_eq_none (by omega), List.getElem?_eq_none (by simp; omega)]
theorem set_get {xs : List Int32} {u j : Nat} {x : Int32} (hu : u < xs.length) : (xs.set u x).getD j 0 = if j = u then x else xs.getD j 0 := by
  rw [List.getD_eq_getElem?_getD, List.getElem?_set]
  by_cases e : u = j
  · subst e
    rw [if_pos rfl, if_pos hu, if_pos rfl]
    rfl
  · rw [if_neg e, if_neg (Ne.symm e), List.getD_eq_getElem?_getD]
section Twin4
variable {g : GT} {h : AH} {lo m c va xa r : Nat} {C : PC} {q : HP} {E : Nat → AH → Prop}
theorem t_starts {K : Unit → AH → Prop} (hM : mV h m c va xa) (hC : MW lo h c C) (ok : okC C) (hr : rowAt h r q) (ha : g.1 ≤ r) (hlo : r < lo) (hm : m ≠ r) (hK : ∀ h', rowAt h' r (pu_st C) → Fr (onlyS r) h h' → K () h') : w_X8_starts g (some m) (some r) K E h := by
  have hnu : c_nu C ≤ 5 := ok.2.2.2.1
  have np6 : c_np C ≤ 6 := ok.2.1
  have h10 : ¬ (1 : Int32) = 0 := by decide
  unfold w_X8_starts
  refine r_dr hr ha _ (fun h1 H1 F1 => ?_)
  refine Lp1_for 5 (fun i a1 h' => a1 = nI i ∧ ∃ ho ti, rowAt h' r (0, ho, ti) ∧ Fr (onlyS r) h h' ∧ ∀ j, j < i → ho.getD j 0 = (if j < c_nu C then c_wth C j else -2) ∧ ti.getD j 0 = (if j < c_nu C then pu_t0 C j else -2)) ?_ ?_ ⟨rfl, _, _, H1, F1, fun j hj => by omega⟩
  · rintro i _ h3 L hi ⟨rfl, ho, ti, H3, F3, P3⟩ hL
    have e0 : ¬ 5 ≤ nI i := nI_ge (a := i) (b := 5) hi (by omega)
    have M3 := hM.frO F3 hm
    have C3 := hC.frO F3 hlo
    have mv := M3.v
    have cv := C3.v ok
    have l1 : ho.length = 5 := H3.2.1
    have l2 : ti.length = 5 := H3.2.2
    have hlw : ∀ j, j < i + 1 → ∀ x y : Int32, x = (if i < c_nu C then c_wth C i else -2) → y = (if i < c_nu C then pu_t0 C i else -2) → (ho.set i x).getD j 0 = (if j < c_nu C then c_wth C j else -2) ∧ (ti.set i y).getD j 0 = (if j < c_nu C then pu_t0 C j else -2) := by
      rintro j hj x y rfl rfl
      rw [set_get (by omega), set_get (by omega)]
      by_cases e : j = i
      · subst e
        rw [if_pos rfl, if_pos rfl]
        exact ⟨rfl, rfl⟩
      · rw [if_neg e, if_neg e]
        exact P3 j (by omega)
    have fin : ∀ h4 x y, rowAt h4 r (0, ho.set i x, ti) → Fr (onlyS r) h3 h4 → x = (if i < c_nu C then c_wth C i else -2) → y = (if i < c_nu C then pu_t0 C i else -2) → sI g h4 (some r) 0 (5 + nI i) y (fun h => L (nI i + 1) h) := by
      intro h4 x y H4 F4 hx hy
      refine r_ti H4 ha hi _ (fun h5 H5 F5 => ?_)
      rw [nI_1 i]
      exact hL _ _ ⟨rfl, _, _, H5, F3.trans (F4.trans F5), fun j hj => hlw j hj x y hx hy⟩
    by_cases hn : i < c_nu C
    · have e1 := nle_s (a := i) (b := c_nu C) hn (by omega)
      have hw : who (c_np C) (c_wth C i) := ok.2.2.2.2.2.2.2.2.2.2.2.2.2.2.2.2.2.2.2.2.2.2.2.2 i
      simp only [↓bt1, ↓bt2, ↓bt3, ↓bt4, ↓nmI_s, ↓nmJ_s, ↓letK_s, ↓nz_0, ↓nz_1, ↓nz_b, not_false_eq_true, not_true_eq_false, true_and, and_true, bI_0, bI_1, imp_tt, imp_ff, ↓w_X8_starts_L7, ↓w_X8_starts_J37, e0, ↓mv, ↓cv, hn, e1]
      refine r_ho H3 ha hi _ (fun h4 H4 F4 => ?_)
      have M4 := M3.frO F4 hm
      have C4 := C3.frO F4 hlo
      have mv := M4.v
      have cv := C4.v ok
      have fin' : ∀ y, y = pu_t0 C i → sI g h4 (some r) 0 (5 + nI i) y (fun h => L (nI i + 1) h) := fun y hy => fin h4 _ y H4 F4 (by rw [if_pos hn]) (by rw [if_pos hn]; exact hy)
      rcases hw with hx | ⟨p, hp, hx⟩
      · simp only [↓bt1, ↓bt2, ↓bt3, ↓bt4, ↓nmI_s, ↓nmJ_s, ↓letK_s, ↓nz_0, ↓nz_1, ↓nz_b, not_false_eq_true, not_true_eq_false, true_and, and_true, bI_0, bI_1, imp_tt, imp_ff, ↓w_X8_starts_J75, ↓w_X8_starts_J81, hx]
        exact fin' _ (by unfold pu_t0; rw [if_pos hx])
      · have hn2 : ¬ nI p = (-2) := by
          have : ∀ q : Nat, q < 6 → ¬ nI q = (-2) := by decide
          exact this p (by omega)
        have hcl : (nI p).toNatClampNeg = p := nI_clamp (by omega)
        have hk4 := k4 ok i
        by_cases e : c_kind C i = 2
        · have e2 : nI (c_kind C i) = 2 := by rw [e]; rfl
          simp only [↓bt1, ↓bt2, ↓bt3, ↓bt4, ↓nmI_s, ↓nmJ_s, ↓letK_s, ↓nz_0, ↓nz_1, ↓nz_b, not_false_eq_true, not_true_eq_false, true_and, and_true, bI_0, bI_1, imp_tt, imp_ff, ↓w_X8_starts_J75, ↓w_X8_starts_J81, hx, hn2, ↓mv, ↓cv, hn, e2]
          exact fin' _ (by unfold pu_t0; rw [hx, if_neg hn2, if_pos e])
        · have e2 : ¬ nI (c_kind C i) = 2 := fun z => e ((nI_eq (a := c_kind C i) (b := 2) (by omega) (by omega)).mp z)
          simp only [↓bt1, ↓bt2, ↓bt3, ↓bt4, ↓nmI_s, ↓nmJ_s, ↓letK_s, ↓nz_0, ↓nz_1, ↓nz_b, not_false_eq_true, not_true_eq_false, true_and, and_true, bI_0, bI_1, imp_tt, imp_ff, ↓w_X8_starts_J75, ↓w_X8_starts_J81, hx, hn2, mv, ↓mv, ↓cv, hn, e2]
          refine t_isChild M4 C4 ok hp ?_
          cases hb : canP (c_sort C p) with
          | true =>
            simp only [↓bt1, ↓bt2, ↓bt3, ↓bt4, ↓nmI_s, ↓nmJ_s, ↓letK_s, ↓nz_0, ↓nz_1, ↓nz_b, not_false_eq_true, not_true_eq_false, true_and, and_true, bI_0, bI_1, imp_tt, imp_ff, Bool.not_true]
            exact fin' _ (by unfold pu_t0; rw [hx, if_neg hn2, if_neg e, hcl, hb]; rfl)
          | false =>
            simp only [↓bt1, ↓bt2, ↓bt3, ↓bt4, ↓nmI_s, ↓nmJ_s, ↓letK_s, ↓nz_0, ↓nz_1, ↓nz_b, not_false_eq_true, not_true_eq_false, true_and, and_true, bI_0, bI_1, imp_tt, imp_ff, Bool.not_false, h10]
            exact fin' _ (by unfold pu_t0; rw [hx, if_neg hn2, if_neg e, hcl, hb]; rfl)
    · have e1 : nI (c_nu C) ≤ nI i := nI_le (by omega) (by omega)
      simp only [↓bt1, ↓bt2, ↓bt3, ↓bt4, ↓nmI_s, ↓nmJ_s, ↓letK_s, ↓nz_0, ↓nz_1, ↓nz_b, not_false_eq_true, not_true_eq_false, true_and, and_true, bI_0, bI_1, imp_tt, imp_ff, ↓w_X8_starts_L7, ↓w_X8_starts_J37, e0, ↓mv, ↓cv, e1, ↓w_X8_starts_J75, ↓w_X8_starts_J81]
      refine r_ho H3 ha hi _ (fun h4 H4 F4 => ?_)
      exact fin h4 _ _ H4 F4 (by rw [if_neg hn]) (by rw [if_neg hn])
  · rintro _ h3 L ⟨rfl, ho, ti, H3, F3, P3⟩
    have e0 : 5 ≤ nI 5 := by decide
    simp only [↓bt1, ↓bt2, ↓bt3, ↓bt4, ↓nmI_s, ↓nmJ_s, ↓letK_s, ↓nz_0, ↓nz_1, ↓nz_b, not_false_eq_true, not_true_eq_false, true_and, and_true, bI_0, bI_1, imp_tt, imp_ff, ↓w_X8_starts_L7, ↓bt1 e0]
    have e1 : ho = (pu_st C).2.1 := list5 H3.2.1 (fun u hu => (P3 u hu).1)
    have e2 : ti = (pu_st C).2.2 := list5 H3.2.2 (fun u hu => (P3 u hu).2)
    rw [e1, e2] at H3
    exact hK h3 H3 F3
theorem t_tries {q' : HP} {K : Unit → AH → Prop} (hM : mV h m c va xa) (hv : rowAt h va q) (hx : rowAt h xa q') (ha : g.1 ≤ xa) (hmx : m ≠ xa) (hvx : va ≠ xa) (hK : ∀ h', rowAt h' xa q → Fr (onlyS xa) h h' → K () h') : w_X8_tries g (some m) K E h := by
  have ll := rowL_len q hv.2.1 hv.2.2
  have lx := rowL_len q' hx.2.1 hx.2.2
  unfold w_X8_tries
  refine Lp1_for 11 (fun i a1 h' => a1 = nI i ∧ ∃ xs : List Int32, h'.1 xa = some (.inl (0, .inl xs)) ∧ xs.length = 11 ∧ (∀ j, j < i → xs.getD j 0 = (rowL q).getD j 0) ∧ Fr (onlyS xa) h h') ?_ ?_ ⟨rfl, rowL q', hx.1, lx, fun j hj => by omega, Fr.rfl⟩
  · rintro i _ h3 L hi ⟨rfl, xs, H3, l3, P3, F3⟩ hL
    have e0 : ¬ 11 ≤ nI i := nI_ge (a := i) (b := 11) hi (by omega)
    have mv := (hM.frO F3 hmx).v
    have vv := (hv.fr (F3.1 va (by unfold onlyS; omega))).v
    simp only [↓bt1, ↓bt2, ↓bt3, ↓bt4, ↓nmI_s, ↓nmJ_s, ↓letK_s, ↓nz_0, ↓nz_1, ↓nz_b, not_false_eq_true, not_true_eq_false, true_and, and_true, bI_0, bI_1, imp_tt, imp_ff, ↓w_X8_tries_L2, e0, ↓mv, ↓vv, hi]
    rw [sI_v ha H3 (by omega) (by omega), nI_1 i]
    refine hL _ _ ⟨rfl, _, by rw [upd_s, if_pos rfl], by simp [l3], fun j hj => ?_, F3.trans (Fr.upd rfl)⟩
    rw [set_get (by omega)]
    by_cases e : j = i
    · rw [if_pos e, e]
    · rw [if_neg e]
      exact P3 j (by omega)
  · rintro _ h3 L ⟨rfl, xs, H3, l3, P3, F3⟩
    have e0 : 11 ≤ nI 11 := by decide
    simp only [↓bt1, ↓bt2, ↓bt3, ↓bt4, ↓nmI_s, ↓nmJ_s, ↓letK_s, ↓nz_0, ↓nz_1, ↓nz_b, not_false_eq_true, not_true_eq_false, true_and, and_true, bI_0, bI_1, imp_tt, imp_ff, ↓w_X8_tries_L2, ↓bt1 e0]
    have e1 : xs = rowL q := by
      apply List.ext_getElem?
      intro i
      by_cases hi : i < 11
      · have h1 := P3 i hi
        rw [List.getD_eq_getElem?_getD, List.getD_eq_getElem?_getD, List.getElem?_eq_getElem (by omega), List.getElem?_eq_getElem (by omega)] at h1
        rw [List.getElem?_eq_getElem (by omega), List.getElem?_eq_getElem (by omega)]
        exact congrArg some h1
      · rw [List.getElem?_eq_none (by omega), List.getElem?_eq_none (by omega)]
    exact hK h3 ⟨by rw [H3, e1], hv.2⟩ F3
theorem t_rightIn {K : Int32 → AH → Prop} (hM : mV h m c va xa) (hC : MW lo h c C) (ok : okC C) (hr : rowAt h r q) (hK : K (pu_right q.2.1 q.2.2 (c_nu C)) h) : w_X8_rightIn g (some m) (some r) K E h := by
  have mv := hM.v
  have cv := hC.v ok
  have rv := hr.v
  have hnu : c_nu C ≤ 5 := ok.2.2.2.1
  refine Lp2_for (c_nu C) (fun i a1 a2 h' => h' = h ∧ a1 = pu_right q.2.1 q.2.2 i ∧ a2 = nI i) ?_ ?_ ⟨rfl, rfl, rfl⟩
  · rintro i _ _ _ L hi ⟨rfl, rfl, rfl⟩ hL
    have e1 := nle_s (a := i) (b := c_nu C) hi (by omega)
    have hi5 : i < 5 := by omega
    by_cases hp : q.2.2.getD i 0 = (-2)
    · simp only [↓bt1, ↓bt2, ↓bt3, ↓bt4, ↓nmI_s, ↓nmJ_s, ↓letK_s, ↓nz_0, ↓nz_1, ↓nz_b, not_false_eq_true, not_true_eq_false, true_and, and_true, bI_0, bI_1, imp_tt, imp_ff, ↓w_X8_rightIn_L4, ↓w_X8_rightIn_J45, ↓w_X8_rightIn_J46, ↓mv, ↓cv, ↓rv, hi, e1, hi5, hp]
      exact hL _ _ _ ⟨rfl, by simp only [pu_right, hp, not_true_eq_false, false_and, if_false], nI_1 i⟩
    · by_cases hq : q.2.2.getD i 0 = q.2.1.getD i 0
      · simp only [↓bt1, ↓bt2, ↓bt3, ↓bt4, ↓nmI_s, ↓nmJ_s, ↓letK_s, ↓nz_0, ↓nz_1, ↓nz_b, not_false_eq_true, not_true_eq_false, true_and, and_true, bI_0, bI_1, imp_tt, imp_ff, ↓w_X8_rightIn_L4, ↓w_X8_rightIn_J45, ↓w_X8_rightIn_J46, ↓mv, ↓cv, ↓rv, hi, e1, hi5, ↓bt2 hp, ↓bt3 hq]
        exact hL _ _ _ ⟨rfl, by simp only [pu_right]; rw [if_pos ⟨hp, hq⟩], nI_1 i⟩
      · simp only [↓bt1, ↓bt2, ↓bt3, ↓bt4, ↓nmI_s, ↓nmJ_s, ↓letK_s, ↓nz_0, ↓nz_1, ↓nz_b, not_false_eq_true, not_true_eq_false, true_and, and_true, bI_0, bI_1, imp_tt, imp_ff, ↓w_X8_rightIn_L4, ↓w_X8_rightIn_J45, ↓w_X8_rightIn_J46, ↓mv, ↓cv, ↓rv, hi, e1, hi5, ↓bt2 hp, ↓bt4 hq]
        exact hL _ _ _ ⟨rfl, by simp only [pu_right]; rw [if_neg (fun z => hq z.2)], nI_1 i⟩
  · rintro _ _ _ L ⟨rfl, rfl, rfl⟩
    have e1 : nI (c_nu C) ≤ nI (c_nu C) := nI_le (Nat.le_refl _) (by omega)
    simp only [↓bt1, ↓bt2, ↓bt3, ↓bt4, ↓nmI_s, ↓nmJ_s, ↓letK_s, ↓nz_0, ↓nz_1, ↓nz_b, not_false_eq_true, not_true_eq_false, true_and, and_true, bI_0, bI_1, imp_tt, imp_ff, ↓w_X8_rightIn_L4, ↓mv, ↓cv, e1, hK]
theorem t_happens {i : Nat} {K : Int32 → AH → Prop} (hM : mV h m c va xa) (hC : MW lo h c C) (ok : okC C) (hx : rowAt h xa q) (ha : g.1 ≤ xa) (hlo : xa < lo) (hm : m ≠ xa) (hi : i ≤ 40) (hK : ∀ h', rowAt h' xa (q.1, pu_evs C i q.2.1 (c_nl C), q.2.2) → Fr (onlyS xa) h h' → K (bI (pu_rain C i (c_nl C))) h') : w_X8_happens g (some m) (nI i) K E h := by
  have nl16 : c_nl C ≤ 16 := ok.2.2.2.2.1
  have nu5 : c_nu C ≤ 5 := ok.2.2.2.1
  have hday40 : ∀ k, c_day C k ≤ 40 := ok.2.2.2.2.2.2.2.2.2.2.2.2.2.2.2.2.2.2.2.1
  unfold w_X8_happens
  refine Lp2_for (c_nl C) (fun k a1 a2 h' => a1 = bI (pu_rain C i k) ∧ a2 = nI k ∧ rowAt h' xa (q.1, pu_evs C i q.2.1 k, q.2.2) ∧ Fr (onlyS xa) h h') ?_ ?_ ⟨rfl, rfl, hx, Fr.rfl⟩
  · rintro k _ _ h3 L hk ⟨rfl, rfl, H3, F3⟩ hL
    have e1 := nle_s (a := k) (b := c_nl C) hk (by omega)
    have M3 := hM.frO F3 hm
    have C3 := hC.frO F3 hlo
    have mv := M3.v
    have cv := C3.v ok
    have hd40 := hday40 k
    by_cases hd : c_day C k = i
    · have e2 : nI (c_day C k) = nI i := by rw [hd]
      have eev : pu_evs C i q.2.1 (k + 1) = pu_ev C k (pu_evs C i q.2.1 k) := by rw [pu_evs, if_pos hd]
      have o0 : c_what C k < 4 := ok.2.2.2.2.2.2.2.2.2.2.2.2.2.2.1 k
      have o1 : c_one C k < c_nu C := ok.2.2.2.2.2.2.2.2.2.2.2.2.2.2.2.1 k
      have era : pu_rain C i (k + 1) = (pu_rain C i k || decide (c_what C k = 3)) := by rw [pu_rain, decide_eq_true hd]; rfl
      have fin : ∀ h4, rowAt h4 xa (q.1, pu_ev C k (pu_evs C i q.2.1 k), q.2.2) → Fr (onlyS xa) h3 h4 → c_what C k ≠ 3 → w_X8_happens_J134 g (some m) (nI i) (bI (pu_rain C i k)) (nI k) K E L h4 := by
        intro h4 H4 F4 hne
        simp only [↓bt1, ↓bt2, ↓bt3, ↓bt4, ↓nmI_s, ↓nmJ_s, ↓letK_s, ↓nz_0, ↓nz_1, ↓nz_b, not_false_eq_true, not_true_eq_false, true_and, and_true, bI_0, bI_1, imp_tt, imp_ff, ↓w_X8_happens_J134]
        refine hL _ _ _ ⟨?_, nI_1 k, by rw [eev]; exact H4, F3.trans F4⟩
        rw [era, decide_eq_false hne, Bool.or_false]
      have : c_what C k = 0 ∨ c_what C k = 1 ∨ c_what C k = 2 ∨ c_what C k = 3 := by omega
      rcases this with e | e | e | e
      · have ew : nI (c_what C k) = 0 := by rw [e]; rfl
        have ee : pu_ev C k (pu_evs C i q.2.1 k) = (pu_evs C i q.2.1 k).set (c_one C k) (nI (c_oth C k)) := by unfold pu_ev; rw [if_pos e]
        have q3 : (if c_what C k = 3 then 0 else nI (c_one C k)) = nI (c_one C k) := if_neg (by omega)
        have q4 : (if c_what C k = 0 ∨ c_what C k = 2 then nI (c_oth C k) else 0) = nI (c_oth C k) := if_pos (Or.inl e)
        simp only [↓bt1, ↓bt2, ↓bt3, ↓bt4, ↓nmI_s, ↓nmJ_s, ↓letK_s, ↓nz_0, ↓nz_1, ↓nz_b, not_false_eq_true, not_true_eq_false, true_and, and_true, bI_0, bI_1, imp_tt, imp_ff, ↓w_X8_happens_L4, ↓mv, ↓cv, hk, e1, e2, ew, q3]
        refine ⟨fun z hz hx0 => ?_, fun hz => absurd rfl (hz (0, _) List.mem_cons_self)⟩
        simp only [List.mem_cons, List.not_mem_nil, or_false] at hz
        rcases hz with rfl | rfl | rfl
        · simp only [↓bt1, ↓bt2, ↓bt3, ↓bt4, ↓nmI_s, ↓nmJ_s, ↓letK_s, ↓nz_0, ↓nz_1, ↓nz_b, not_false_eq_true, not_true_eq_false, true_and, and_true, bI_0, bI_1, imp_tt, imp_ff, ↓mv, ↓cv, hk, q4]
          refine r_ho H3 ha (by omega) _ (fun h4 H4 F4 => ?_)
          exact fin h4 (by rw [ee]; exact H4) F4 (by omega)
        · exact absurd hx0 (by dsimp only; decide)
        · exact absurd hx0 (by dsimp only; decide)
      · have ew : nI (c_what C k) = 1 := by rw [e]; rfl
        have ee : pu_ev C k (pu_evs C i q.2.1 k) = (pu_evs C i q.2.1 k).set (c_one C k) (-2) := by unfold pu_ev; rw [if_neg (by omega), if_pos e]
        have q3 : (if c_what C k = 3 then 0 else nI (c_one C k)) = nI (c_one C k) := if_neg (by omega)
        simp only [↓bt1, ↓bt2, ↓bt3, ↓bt4, ↓nmI_s, ↓nmJ_s, ↓letK_s, ↓nz_0, ↓nz_1, ↓nz_b, not_false_eq_true, not_true_eq_false, true_and, and_true, bI_0, bI_1, imp_tt, imp_ff, ↓w_X8_happens_L4, ↓mv, ↓cv, hk, e1, e2, ew, q3]
        refine ⟨fun z hz hx0 => ?_, fun hz => absurd rfl (hz (1, _) (List.mem_cons_of_mem _ List.mem_cons_self))⟩
        simp only [List.mem_cons, List.not_mem_nil, or_false] at hz
        rcases hz with rfl | rfl | rfl
        · exact absurd hx0 (by dsimp only; decide)
        · simp only [↓bt1, ↓bt2, ↓bt3, ↓bt4, ↓nmI_s, ↓nmJ_s, ↓letK_s, ↓nz_0, ↓nz_1, ↓nz_b, not_false_eq_true, not_true_eq_false, true_and, and_true, bI_0, bI_1, imp_tt, imp_ff, ↓mv]
          refine r_ho H3 ha (by omega) _ (fun h4 H4 F4 => ?_)
          exact fin h4 (by rw [ee]; exact H4) F4 (by omega)
        · exact absurd hx0 (by dsimp only; decide)
      · have ew : nI (c_what C k) = 2 := by rw [e]; rfl
        have ee : pu_ev C k (pu_evs C i q.2.1 k) = pu_swap (pu_evs C i q.2.1 k) (c_one C k) (c_oth C k) := by unfold pu_ev; rw [if_neg (by omega), if_neg (by omega), if_pos e]
        have q3 : (if c_what C k = 3 then 0 else nI (c_one C k)) = nI (c_one C k) := if_neg (by omega)
        have q4 : (if c_what C k = 0 ∨ c_what C k = 2 then nI (c_oth C k) else 0) = nI (c_oth C k) := if_pos (Or.inr e)
        have o3 : c_oth C k < c_nu C := ok.2.2.2.2.2.2.2.2.2.2.2.2.2.2.2.2.2.2.1 k e
        simp only [↓bt1, ↓bt2, ↓bt3, ↓bt4, ↓nmI_s, ↓nmJ_s, ↓letK_s, ↓nz_0, ↓nz_1, ↓nz_b, not_false_eq_true, not_true_eq_false, true_and, and_true, bI_0, bI_1, imp_tt, imp_ff, ↓w_X8_happens_L4, ↓mv, ↓cv, hk, e1, e2, ew, q3]
        refine ⟨fun z hz hx0 => ?_, fun hz => absurd rfl (hz (2, _) (List.mem_cons_of_mem _ (List.mem_cons_of_mem _ List.mem_cons_self)))⟩
        simp only [List.mem_cons, List.not_mem_nil, or_false] at hz
        rcases hz with rfl | rfl | rfl
        · exact absurd hx0 (by dsimp only; decide)
        · exact absurd hx0 (by dsimp only; decide)
        · simp only [↓bt1, ↓bt2, ↓bt3, ↓bt4, ↓nmI_s, ↓nmJ_s, ↓letK_s, ↓nz_0, ↓nz_1, ↓nz_b, not_false_eq_true, not_true_eq_false, true_and, and_true, bI_0, bI_1, imp_tt, imp_ff, ↓mv, ↓cv, hk, q4]
          refine t_changes H3 ha (by omega) (by omega) (fun h4 H4 F4 => ?_)
          exact fin h4 (by rw [ee]; exact H4) F4 (by omega)
      · have ew : nI (c_what C k) = 3 := by rw [e]; rfl
        have ee : pu_ev C k (pu_evs C i q.2.1 k) = pu_evs C i q.2.1 k := by unfold pu_ev; rw [if_neg (by omega), if_neg (by omega), if_neg (by omega)]
        have q3 : (if c_what C k = 3 then (0 : Int32) else nI (c_one C k)) = 0 := if_pos e
        simp only [↓bt1, ↓bt2, ↓bt3, ↓bt4, ↓nmI_s, ↓nmJ_s, ↓letK_s, ↓nz_0, ↓nz_1, ↓nz_b, not_false_eq_true, not_true_eq_false, true_and, and_true, bI_0, bI_1, imp_tt, imp_ff, ↓w_X8_happens_L4, ↓mv, ↓cv, hk, e1, e2, ew, q3]
        refine ⟨fun z hz hx0 => ?_, fun _ => ?_⟩
        · simp only [List.mem_cons, List.not_mem_nil, or_false] at hz
          rcases hz with rfl | rfl | rfl
          · exact absurd hx0 (by dsimp only; decide)
          · exact absurd hx0 (by dsimp only; decide)
          · exact absurd hx0 (by dsimp only; decide)
        · simp only [↓bt1, ↓bt2, ↓bt3, ↓bt4, ↓nmI_s, ↓nmJ_s, ↓letK_s, ↓nz_0, ↓nz_1, ↓nz_b, not_false_eq_true, not_true_eq_false, true_and, and_true, bI_0, bI_1, imp_tt, imp_ff, ↓w_X8_happens_J134]
          refine hL _ _ _ ⟨?_, nI_1 k, by rw [eev, ee]; exact H3, F3⟩
          rw [era, decide_eq_true e, Bool.or_true]
          rfl
    · have e2 : ¬ nI (c_day C k) = nI i := fun z => hd ((nI_eq (by omega) (by omega)).mp z)
      simp only [↓bt1, ↓bt2, ↓bt3, ↓bt4, ↓nmI_s, ↓nmJ_s, ↓letK_s, ↓nz_0, ↓nz_1, ↓nz_b, not_false_eq_true, not_true_eq_false, true_and, and_true, bI_0, bI_1, imp_tt, imp_ff, ↓w_X8_happens_L4, ↓w_X8_happens_J134, ↓mv, ↓cv, hk, e1, e2]
      refine hL _ _ _ ⟨?_, nI_1 k, ?_, F3⟩
      · rw [pu_rain, decide_eq_false hd, Bool.false_and, Bool.or_false]
      · rw [pu_evs, if_neg hd]
        exact H3
  · rintro _ _ h3 L ⟨rfl, rfl, H3, F3⟩
    have e1 : nI (c_nl C) ≤ nI (c_nl C) := nI_le (Nat.le_refl _) (by omega)
    have mv := (hM.frO F3 hm).v
    have cv := (hC.frO F3 hlo).v ok
    simp only [↓bt1, ↓bt2, ↓bt3, ↓bt4, ↓nmI_s, ↓nmJ_s, ↓letK_s, ↓nz_0, ↓nz_1, ↓nz_b, not_false_eq_true, not_true_eq_false, true_and, and_true, bI_0, bI_1, imp_tt, imp_ff, ↓w_X8_happens_L4, ↓mv, ↓cv, e1]
    exact hK h3 H3 F3
theorem t_goesBy {i : Nat} {K : Unit → AH → Prop} (hM : mV h m c va xa) (hC : MW lo h c C) (ok : okC C) (hx : rowAt h xa q) (ha : g.1 ≤ xa) (hlo : xa < lo) (hm : m ≠ xa) (hi : i ≤ 40) (hw : okH C q.2.1) (hd : okD q.1) (hK : ∀ h', rowAt h' xa (pu_ends C (pu_rain C i (c_nl C)) (q.1, pu_evs C i q.2.1 (c_nl C), q.2.2)) → Fr (onlyS xa) h h' → K () h') : w_X8_goesBy g (some m) (nI i) K E h := by
  have mv := hM.v
  simp only [↓bt1, ↓bt2, ↓bt3, ↓bt4, ↓nmI_s, ↓nmJ_s, ↓letK_s, ↓nz_0, ↓nz_1, ↓nz_b, not_false_eq_true, not_true_eq_false, true_and, and_true, bI_0, bI_1, imp_tt, imp_ff, ↓w_X8_goesBy, mv, ↓mv]
  refine t_happens hM hC ok hx ha hlo hm hi (fun h1 H1 F1 => ?_)
  have M1 := hM.frO F1 hm
  have mv1 := M1.v
  simp only [↓bt1, ↓bt2, ↓bt3, ↓bt4, ↓nmI_s, ↓nmJ_s, ↓letK_s, ↓nz_0, ↓nz_1, ↓nz_b, not_false_eq_true, not_true_eq_false, true_and, and_true, bI_0, bI_1, imp_tt, imp_ff, mv1]
  exact t_ends M1 (hC.frO F1 hlo) ok H1 ha hlo hm (hw.evs ok i _) hd (fun h2 H2 F2 => hK h2 H2 (F1.trans F2))
end Twin4
