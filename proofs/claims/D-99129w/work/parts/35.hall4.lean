set_option maxRecDepth 100000
/-! ===== sets of bits ===== -/
def pb_has (b : Nat → Bool) : Nat → Int32
  | 0 => 0
  | u + 1 => pb_has b u ||| (if b u then 1 <<< (nI u &&& 31) else 0)
def pb_of (b0 b1 b2 b3 b4 : Bool) : Nat → Bool := fun u => if u = 0 then b0 else if u = 1 then b1 else if u = 2 then b2 else if u = 3 then b3 else b4
theorem pb_bits : ∀ b0 b1 b2 b3 b4 : Bool, ∀ n : Nat, n < 6 → (∃ m, m < 32 ∧ pb_has (pb_of b0 b1 b2 b3 b4) n = nI m) ∧ ∀ u : Nat, u < n → (((pb_has (pb_of b0 b1 b2 b3 b4) n >>> (nI u &&& 31)) &&& 1 = 1) ↔ pb_of b0 b1 b2 b3 b4 u = true) := by decide +kernel
theorem pb_congr {b b' : Nat → Bool} : ∀ n, (∀ u, u < n → b u = b' u) → pb_has b n = pb_has b' n
  | 0, _ => rfl
  | n + 1, h => by rw [pb_has, pb_has, pb_congr n (fun u hu => h u (by omega)), h n (by omega)]
theorem pb_all (b : Nat → Bool) {n : Nat} (hn : n ≤ 5) : (∃ m, m < 32 ∧ pb_has b n = nI m) ∧ ∀ u : Nat, u < n → (((pb_has b n >>> (nI u &&& 31)) &&& 1 = 1) ↔ b u = true) := by
  have hc : ∀ u, u < 5 → b u = pb_of (b 0) (b 1) (b 2) (b 3) (b 4) u := by
    intro u hu
    have : u = 0 ∨ u = 1 ∨ u = 2 ∨ u = 3 ∨ u = 4 := by omega
    rcases this with e | e | e | e | e <;> subst e <;> rfl
  have h := pb_bits (b 0) (b 1) (b 2) (b 3) (b 4) n (by omega)
  rw [pb_congr n (fun u hu => hc u (by omega))]
  refine ⟨h.1, fun u hu => ?_⟩
  rw [hc u (by omega)]
  exact h.2 u hu
theorem pu_has_b (ho : List Int32) (p : Int32) : ∀ n, pu_has ho p n = pb_has (fun u => decide (ho.getD u 0 = p)) n
  | 0 => rfl
  | n + 1 => by rw [pu_has, pb_has, pu_has_b ho p n]; simp only [decide_eq_true_eq]
theorem pu_right_b (ho ti : List Int32) : ∀ n, pu_right ho ti n = pb_has (fun u => decide (¬ ti.getD u 0 = (-2) ∧ ti.getD u 0 = ho.getD u 0)) n
  | 0 => rfl
  | n + 1 => by rw [pu_right, pb_has, pu_right_b ho ti n]; simp only [decide_eq_true_eq]
theorem pu_has_bit (ho : List Int32) (p : Int32) {n u : Nat} (hn : n ≤ 5) (hu : u < n) : (((pu_has ho p n >>> (nI u &&& 31)) &&& 1 = 1) ↔ ho.getD u 0 = p) := by
  rw [pu_has_b, (pb_all _ hn).2 u hu]
  simp
theorem pu_has_m (ho : List Int32) (p : Int32) {n : Nat} (hn : n ≤ 5) : ∃ m, m < 64 ∧ pu_has ho p n = nI m := by
  obtain ⟨m, h1, h2⟩ := (pb_all (fun u => decide (ho.getD u 0 = p)) hn).1
  exact ⟨m, by omega, by rw [pu_has_b]; exact h2⟩
theorem pu_right_m (ho ti : List Int32) {n : Nat} (hn : n ≤ 5) : ∃ m, m < 64 ∧ pu_right ho ti n = nI m := by
  obtain ⟨m, h1, h2⟩ := (pb_all (fun u => decide (¬ ti.getD u 0 = (-2) ∧ ti.getD u 0 = ho.getD u 0)) hn).1
  exact ⟨m, by omega, by rw [pu_right_b]; exact h2⟩
def zN : Nat → Int32 → Bool
  | 0, x => x == 0
  | n + 1, x => x == 0 || zN n (x &&& (x - 1))
theorem zN_64 : ∀ m, m < 64 → zN 7 (nI m) = true := by decide +kernel
section Sets
variable {g : GT} {h : AH} {E : Nat → AH → Prop}
theorem s_onesN {K : Int32 → AH → Prop} : ∀ (n : Nat) (acc x : Int32), zN n x = true → K (pu_onesN n acc x) h → LpN2 (w_X1_ones_L4 g K E) (n + 1) acc x h := by
  intro n
  induction n with
  | zero =>
    intro acc x hz hK
    have e : x = 0 := by simpa [zN] using hz
    show w_X1_ones_L4 g K E _ acc x h
    simp only [↓bt1, ↓bt2, ↓bt3, ↓bt4, ↓nmI_s, ↓nmJ_s, ↓letK_s, ↓nz_0, ↓nz_1, ↓nz_b, not_false_eq_true, not_true_eq_false, true_and, and_true, bI_0, bI_1, imp_tt, imp_ff, ↓w_X1_ones_L4, e]
    exact hK
  | succ n ih =>
    intro acc x hz hK
    show w_X1_ones_L4 g K E _ acc x h
    by_cases e : x = 0
    · rw [pu_onesN, if_pos e] at hK
      simp only [↓bt1, ↓bt2, ↓bt3, ↓bt4, ↓nmI_s, ↓nmJ_s, ↓letK_s, ↓nz_0, ↓nz_1, ↓nz_b, not_false_eq_true, not_true_eq_false, true_and, and_true, bI_0, bI_1, imp_tt, imp_ff, ↓w_X1_ones_L4, ↓bt1 e]
      exact hK
    · rw [pu_onesN, if_neg e] at hK
      simp only [↓bt1, ↓bt2, ↓bt3, ↓bt4, ↓nmI_s, ↓nmJ_s, ↓letK_s, ↓nz_0, ↓nz_1, ↓nz_b, not_false_eq_true, not_true_eq_false, true_and, and_true, bI_0, bI_1, imp_tt, imp_ff, ↓w_X1_ones_L4, ↓bt2 e]
      refine ih _ _ ?_ hK
      rw [zN] at hz
      simpa [e] using hz
theorem s_ones {K : Int32 → AH → Prop} {m : Nat} {x : Int32} (hm : m < 64) (hx : x = nI m) (hK : K (pu_ones x) h) : w_X1_ones g x K E h := ⟨8, s_onesN 7 0 x (by rw [hx]; exact zN_64 m hm) hK⟩
theorem s_X1_has {K : Int32 → AH → Prop} {s u : Int32} (hK : K (bI (decide (((s >>> (u &&& 31)) &&& 1) = 1))) h) : w_X1_has g s u K E h := by
  by_cases e : ((s >>> (u &&& 31)) &&& 1) = 1
  · rw [decide_eq_true e] at hK
    simp only [↓bt1, ↓bt2, ↓bt3, ↓bt4, ↓nmI_s, ↓nmJ_s, ↓letK_s, ↓nz_0, ↓nz_1, ↓nz_b, not_false_eq_true, not_true_eq_false, true_and, and_true, bI_0, bI_1, imp_tt, imp_ff, ↓w_X1_has, ↓bt3 e]
    exact hK
  · rw [decide_eq_false e] at hK
    simp only [↓bt1, ↓bt2, ↓bt3, ↓bt4, ↓nmI_s, ↓nmJ_s, ↓letK_s, ↓nz_0, ↓nz_1, ↓nz_b, not_false_eq_true, not_true_eq_false, true_and, and_true, bI_0, bI_1, imp_tt, imp_ff, ↓w_X1_has, ↓bt4 e]
    exact hK
end Sets
theorem pu_best_lt (C : PC) (ho : List Int32) (p : Int32) : ∀ n b, pu_best C ho p n = some b → b < n ∧ ho.getD b 0 = p := by
  intro n
  induction n with
  | zero => intro b hb; cases hb
  | succ n ih =>
    intro b hb
    rw [pu_best] at hb
    by_cases e : ho.getD n 0 = p
    · rw [if_pos e] at hb
      cases hq : pu_best C ho p n with
      | none =>
        rw [hq] at hb
        cases hb
        exact ⟨by omega, e⟩
      | some q =>
        rw [hq] at hb
        dsimp only at hb
        split at hb
        · cases hb; exact ⟨by omega, e⟩
        · cases hb
          exact ⟨by have := (ih _ hq).1; omega, (ih _ hq).2⟩
    · rw [if_neg e] at hb
      exact ⟨by have := (ih _ hb).1; omega, (ih _ hb).2⟩
theorem pu_best_none (C : PC) (ho : List Int32) (p : Int32) : ∀ n, pu_best C ho p n = none → pu_has ho p n = 0 := by
  intro n
  induction n with
  | zero => intro _; rfl
  | succ n ih =>
    intro hb
    rw [pu_best] at hb
    by_cases e : ho.getD n 0 = p
    · rw [if_pos e] at hb
      split at hb
      · cases hb
      · split at hb <;> cases hb
    · rw [if_neg e] at hb
      rw [pu_has, if_neg e, ih hb]
      rfl
def oI (o : Option Nat) : Int32 := match o with
  | some b => nI b
  | none => -2
section Leaves
variable {g : GT} {h : AH} {lo a c : Nat} {C : PC} {A : PA} {d : Int32} {ho ti : List Int32} {E : Nat → AH → Prop}
theorem nIlands {C : PC} (ok : okC C) (u b : Nat) : (nI (c_lands C b) ≤ nI (c_lands C u)) = (c_lands C b ≤ c_lands C u) := by
  have h1 : c_lands C u ≤ 99 := ok.2.2.2.2.2.2.2.2.2.2.2.2.1 u
  have h2 : c_lands C b ≤ 99 := ok.2.2.2.2.2.2.2.2.2.2.2.2.1 b
  exact propext (nI_leI (by omega) (by omega))
theorem s_leaves {p : Int32} {K : Unit → AH → Prop} (hH : hallAt h a (some c) d ho ti) (hC : CW lo h c C A) (ok : okC C) (ha : g.1 ≤ a) (hK : ∀ h', hallAt h' a (some c) d (pu_leave C ho p) ti → Fr (hallS a) h h' → K () h') : w_X4_leaves g (some a) p K E h := by
  have hv := hH.v
  have cv := hC.v ok
  have hnu : c_nu C ≤ 5 := ok.2.2.2.1
  obtain ⟨m, hm, hx⟩ := pu_has_m ho p hnu
  have n2 : ∀ b : Nat, b < 5 → (nI b = (-2)) = False := by
    intro b hb
    have : ∀ q : Nat, q < 5 → ¬ nI q = (-2) := by decide
    exact eq_false (this b hb)
  unfold w_X4_leaves
  refine ⟨by rw [hv.2.2.2.2.2.2]; trivial, s_has hH hC ok (s_ones hm hx ?_)⟩
  by_cases h2 : 2 ≤ pu_ones (pu_has ho p (c_nu C))
  · rw [bt1 h2]
    refine Lp2_for (c_nu C) (fun i a1 a2 h' => h' = h ∧ a1 = oI (pu_best C ho p i) ∧ a2 = nI i) ?_ ?_ ⟨rfl, rfl, rfl⟩
    · rintro i _ _ _ L hi ⟨rfl, rfl, rfl⟩ hL
      have e1 := nle_s (a := i) (b := c_nu C) hi (by omega)
      have hi5 : i < 5 := by omega
      have hbit := pu_has_bit ho p hnu hi
      simp only [↓bt1, ↓bt2, ↓bt3, ↓bt4, ↓nmI_s, ↓nmJ_s, ↓letK_s, ↓nz_0, ↓nz_1, ↓nz_b, not_false_eq_true, not_true_eq_false, true_and, and_true, bI_0, bI_1, imp_tt, imp_ff, ↓w_X4_leaves_L21, ↓hv, ↓cv, e1]
      refine s_X1_has ?_
      have h10 : ¬ (1 : Int32) = 0 := by decide
      by_cases hp : ho.getD i 0 = p
      · rw [decide_eq_true (hbit.mpr hp)]
        cases hq : pu_best C ho p i with
        | none =>
          have e2 : oI (none : Option Nat) = (-2) := rfl
          simp only [↓bt1, ↓bt2, ↓bt3, ↓bt4, ↓nmI_s, ↓nmJ_s, ↓letK_s, ↓nz_0, ↓nz_1, ↓nz_b, not_false_eq_true, not_true_eq_false, true_and, and_true, bI_0, bI_1, imp_tt, imp_ff, h10, e2, ↓w_X4_leaves_J76, ↓w_X4_leaves_J79]
          refine hL _ _ _ ⟨rfl, ?_, nI_1 i⟩
          rw [pu_best, if_pos hp, hq]
          rfl
        | some b =>
          have hb := (pu_best_lt C ho p i b hq).1
          have hbn : b < c_nu C := by omega
          have e2 : oI (some b) = nI b := rfl
          have e3 := n2 b (by omega)
          by_cases hl : c_lands C b ≤ c_lands C i
          · simp only [↓bt1, ↓bt2, ↓bt3, ↓bt4, ↓nmI_s, ↓nmJ_s, ↓letK_s, ↓nz_0, ↓nz_1, ↓nz_b, not_false_eq_true, not_true_eq_false, true_and, and_true, bI_0, bI_1, imp_tt, imp_ff, h10, e2, e3, ↓hv, ↓cv, hi, hbn, nIlands ok, hl, ↓w_X4_leaves_J76, ↓w_X4_leaves_J79]
            refine hL _ _ _ ⟨rfl, ?_, nI_1 i⟩
            rw [pu_best, if_pos hp, hq]
            dsimp only
            rw [if_neg (by omega)]
            rfl
          · simp only [↓bt1, ↓bt2, ↓bt3, ↓bt4, ↓nmI_s, ↓nmJ_s, ↓letK_s, ↓nz_0, ↓nz_1, ↓nz_b, not_false_eq_true, not_true_eq_false, true_and, and_true, bI_0, bI_1, imp_tt, imp_ff, h10, e2, e3, ↓hv, ↓cv, hi, hbn, nIlands ok, hl, ↓w_X4_leaves_J76, ↓w_X4_leaves_J79]
            refine hL _ _ _ ⟨rfl, ?_, nI_1 i⟩
            rw [pu_best, if_pos hp, hq]
            dsimp only
            rw [if_pos (by omega)]
            rfl
      · rw [decide_eq_false (fun z => hp (hbit.mp z))]
        simp only [↓bt1, ↓bt2, ↓bt3, ↓bt4, ↓nmI_s, ↓nmJ_s, ↓letK_s, ↓nz_0, ↓nz_1, ↓nz_b, not_false_eq_true, not_true_eq_false, true_and, and_true, bI_0, bI_1, imp_tt, imp_ff, ↓w_X4_leaves_J79]
        refine hL _ _ _ ⟨rfl, ?_, nI_1 i⟩
        rw [pu_best, if_neg hp]
    · rintro _ _ _ L ⟨rfl, rfl, rfl⟩
      have e1 : nI (c_nu C) ≤ nI (c_nu C) := nI_le (Nat.le_refl _) (by omega)
      cases hq : pu_best C ho p (c_nu C) with
      | none =>
        exfalso
        rw [pu_best_none C ho p _ hq] at h2
        exact absurd h2 (by decide)
      | some b =>
        have hb := (pu_best_lt C ho p _ b hq).1
        have e2 : oI (some b) = nI b := rfl
        simp only [↓bt1, ↓bt2, ↓bt3, ↓bt4, ↓nmI_s, ↓nmJ_s, ↓letK_s, ↓nz_0, ↓nz_1, ↓nz_b, not_false_eq_true, not_true_eq_false, true_and, and_true, bI_0, bI_1, imp_tt, imp_ff, ↓w_X4_leaves_L21, ↓hv, ↓cv, e1, e2]
        refine h_ho hH ha (by omega) _ ?_
        have e3 : pu_leave C ho p = ho.set b (-2) := by unfold pu_leave; rw [if_pos h2, hq]
        rw [e3] at hK
        exact hK
  · rw [bt2 h2]
    have e3 : pu_leave C ho p = ho := by unfold pu_leave; rw [if_neg h2]
    rw [e3] at hK
    exact hK h hH Fr.rfl
end Leaves
