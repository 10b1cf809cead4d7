set_option maxRecDepth 100000
/-- the days behind are written down -/
def hisP (C : PC) (uns : Int32) (u v : Nat) (q : HP) (n : Nat) (HO TI : List Int32) : Prop := ∀ d x, d < n → x < 5 → HO.getD (5 * d + x) 0 = (pu_hist C uns u v q (d + 1)).2.1.getD x 0 ∧ TI.getD (5 * d + x) 0 = (pu_hist C uns u v q (d + 1)).2.2.getD x 0
section Run
variable {g : GT} {h : AH} {lo a c : Nat} {C : PC} {A : PA} {E : Nat → AH → Prop} {K : Unit → AH → Prop}
theorem s_J109 {v2 v3 v4 : Int32} {d : Int32} {ho ti HO TI : List Int32} {kk i : Nat} {r : Bool} {L : Int32 → Int32 → AH → Prop} (hX : crsAt h a (some c) d ho ti HO TI) (hC : CW lo h c C A) (ok : okC C) (ha : g.1 ≤ a) (hlo : a + 6 ≤ lo) (hw : okH C ho) (hi : i ≤ 40)
    (hK : ∀ h' HO' TI', crsAt h' a (some c) (pu_ends C r (d, ho, ti)).1 (pu_ends C r (d, ho, ti)).2.1 (pu_ends C r (d, ho, ti)).2.2 HO' TI' → (∀ j, HO'.getD j 0 = if 5 * i ≤ j ∧ j < 5 * i + 5 then (pu_ends C r (d, ho, ti)).2.1.getD (j - 5 * i) 0 else HO.getD j 0) → (∀ j, TI'.getD j 0 = if 5 * i ≤ j ∧ j < 5 * i + 5 then (pu_ends C r (d, ho, ti)).2.2.getD (j - 5 * i) 0 else TI.getD j 0) → Fr (crsS a) h h' → L (nI kk) (nI (i + 1)) h') : w_X5_run_J109 g (some a) (some c) v2 v3 v4 (nI kk) (nI i) (bI r) K E L h := by
  have hv := hX.v
  have hh := hX.2.1.v
  simp only [↓bt1, ↓bt2, ↓bt3, ↓bt4, ↓nmI_s, ↓nmJ_s, ↓letK_s, ↓nz_0, ↓nz_1, ↓nz_b, not_false_eq_true, not_true_eq_false, true_and, and_true, bI_0, bI_1, imp_tt, imp_ff, ↓w_X5_run_J109, ↓hv, hh]
  refine s_ends (C := C) (A := A) hX.2.1 hC ok (by omega) (by omega) hw (fun h1 H1 F1 => ?_)
  have X1 := hX.hall F1 H1
  have hv1 := X1.v
  have hh1 := H1.v
  generalize hq : pu_ends C r (d, ho, ti) = q at *
  simp only [↓bt1, ↓bt2, ↓bt3, ↓bt4, ↓nmI_s, ↓nmJ_s, ↓letK_s, ↓nz_0, ↓nz_1, ↓nz_b, not_false_eq_true, not_true_eq_false, true_and, and_true, bI_0, bI_1, imp_tt, imp_ff, ↓hv1, ↓hh1]
  obtain ⟨x1, ⟨x2, x3, x4, x5, x6⟩, x7, x8, x9, x10⟩ := X1
  have e5 : (5 : Int32) * nI i = nI (5 * i) := by
    have := pk_mul 5 i
    exact this
  have n0' : (0 : Int32) = nI 0 := rfl
  have n5' : (5 : Int32) = nI 5 := rfl
  rw [e5, n0', n5']
  refine cI_v (by omega) x3 x7 (by omega) (by omega) (by omega) (by omega) ?_
  generalize hh2 : updH h1 (a + 4) (.inl (0, .inl (cpL q.2.1 HO 0 (5 * i) 5))) = h2
  have F2 : Fr (crsS a) h1 h2 := by rw [← hh2]; exact Fr.upd (by unfold crsS; omega)
  have u2 : ∀ b, b ≠ a + 4 → h2.1 b = h1.1 b := fun b hb => by rw [← hh2, upd_s, if_neg hb]
  have l2 := cp_len (xs := q.2.1) (ys := HO) (dp := 5 * i) x5 (by omega)
  have X2 : crsAt h2 a (some c) q.1 q.2.1 q.2.2 (cpL q.2.1 HO 0 (5 * i) 5) TI := by
    refine ⟨?_, ⟨?_, ?_, ?_, x5, x6⟩, ?_, ?_, by omega, x10⟩
    · rw [u2 _ (by omega)]; exact x1
    · rw [u2 _ (by omega)]; exact x2
    · rw [u2 _ (by omega)]; exact x3
    · rw [u2 _ (by omega)]; exact x4
    · rw [← hh2, upd_s, if_pos rfl]
    · rw [u2 _ (by omega)]; exact x8
  have hv2 := X2.v
  have hh3 := X2.2.1.v
  simp only [↓bt1, ↓bt2, ↓bt3, ↓bt4, ↓nmI_s, ↓nmJ_s, ↓letK_s, ↓nz_0, ↓nz_1, ↓nz_b, not_false_eq_true, not_true_eq_false, true_and, and_true, bI_0, bI_1, imp_tt, imp_ff, ↓hv2, ↓hh3]
  obtain ⟨y1, ⟨y2, y3, y4, y5, y6⟩, y7, y8, y9, y10⟩ := X2
  refine cI_v (by omega) y4 y8 (by omega) (by omega) (by omega) (by omega) ?_
  generalize hh4 : updH h2 (a + 5) (.inl (0, .inl (cpL q.2.2 TI 0 (5 * i) 5))) = h3
  have F3 : Fr (crsS a) h2 h3 := by rw [← hh4]; exact Fr.upd (by unfold crsS; omega)
  have u3 : ∀ b, b ≠ a + 5 → h3.1 b = h2.1 b := fun b hb => by rw [← hh4, upd_s, if_neg hb]
  have l3 := cp_len (xs := q.2.2) (ys := TI) (dp := 5 * i) x6 (by omega)
  show L (nI kk) (nI i + 1) h3
  rw [nI_1 i]
  refine hK h3 _ _ ⟨?_, ⟨?_, ?_, ?_, y5, y6⟩, ?_, ?_, y9, ?_⟩ (fun j => cp_get x5 (by omega)) (fun j => cp_get x6 (by omega)) ((F1.mono (fun q => crsS_hall)).trans (F2.trans F3))
  · rw [u3 _ (by omega)]; exact y1
  · rw [u3 _ (by omega)]; exact y2
  · rw [u3 _ (by omega)]; exact y3
  · rw [u3 _ (by omega)]; exact y4
  · rw [u3 _ (by omega)]; exact y7
  · rw [← hh4, upd_s, if_pos rfl]
  · omega
theorem s_J37 {v2 v3 v4 : Int32} {d : Int32} {ho ti HO TI : List Int32} {k0 i : Nat} {L : Int32 → Int32 → AH → Prop} (hX : crsAt h a (some c) d ho ti HO TI) (hC : CW lo h c C A) (ok : okC C) (ha : g.1 ≤ a) (hlo : a + 6 ≤ lo) (hw : okH C ho) (hi : i ≤ 40) (hk0 : k0 ≤ c_nl C) (hk1 : ∀ j, j < k0 → c_day C j < i) (hk2 : ∀ j, k0 ≤ j → j < c_nl C → i ≤ c_day C j)
    (hK : ∀ h' HO' TI' kk, kk ≤ c_nl C → (∀ j, j < kk → c_day C j < i + 1) → (∀ j, kk ≤ j → j < c_nl C → i + 1 ≤ c_day C j) → crsAt h' a (some c) (pu_ends C (pu_rain C i (c_nl C)) (d, pu_evs C i ho (c_nl C), ti)).1 (pu_ends C (pu_rain C i (c_nl C)) (d, pu_evs C i ho (c_nl C), ti)).2.1 (pu_ends C (pu_rain C i (c_nl C)) (d, pu_evs C i ho (c_nl C), ti)).2.2 HO' TI' → (∀ j, HO'.getD j 0 = if 5 * i ≤ j ∧ j < 5 * i + 5 then (pu_ends C (pu_rain C i (c_nl C)) (d, pu_evs C i ho (c_nl C), ti)).2.1.getD (j - 5 * i) 0 else HO.getD j 0) → (∀ j, TI'.getD j 0 = if 5 * i ≤ j ∧ j < 5 * i + 5 then (pu_ends C (pu_rain C i (c_nl C)) (d, pu_evs C i ho (c_nl C), ti)).2.2.getD (j - 5 * i) 0 else TI.getD j 0) → Fr (crsS a) h h' → L (nI kk) (nI (i + 1)) h') : w_X5_run_J37 g (some a) (some c) v2 v3 v4 (nI k0) (nI i) K E L h := by
  have nl16 : c_nl C ≤ 16 := ok.2.2.2.2.1
  have hsort : ∀ j k, j ≤ k → k < c_nl C → c_day C j ≤ c_day C k := ok.2.2.2.2.2.2.2.2.2.2.2.2.2.2.2.2.2.2.2.2.1
  have hday40 : ∀ k, c_day C k ≤ 40 := ok.2.2.2.2.2.2.2.2.2.2.2.2.2.2.2.2.2.2.2.1
  unfold w_X5_run_J37
  refine Lp2_m (fun a1 a2 h' => ∃ kk, a1 = nI kk ∧ k0 ≤ kk ∧ kk ≤ c_nl C ∧ a2 = bI (pu_rain C i kk) ∧ (∀ j, j < kk → c_day C j ≤ i) ∧ crsAt h' a (some c) d (pu_evs C i ho kk) ti HO TI ∧ Fr (crsS a) h h') (fun a1 _ _ => c_nl C - a1.toNatClampNeg) ?_ ?_
  · rintro _ _ h1 M ⟨kk, rfl, hk3, hk4, rfl, hk5, X1, F1⟩ hM
    have C1 := hC.frB F1 hlo
    have cv := C1.v ok
    have hv := X1.v
    have hcl : (nI kk).toNatClampNeg = kk := nI_clamp (by omega)
    by_cases hkn : kk = c_nl C
    · have e1 : nI (c_nl C) ≤ nI kk := nI_le (by omega) (by omega)
      simp only [↓bt1, ↓bt2, ↓bt3, ↓bt4, ↓nmI_s, ↓nmJ_s, ↓letK_s, ↓nz_0, ↓nz_1, ↓nz_b, not_false_eq_true, not_true_eq_false, true_and, and_true, bI_0, bI_1, imp_tt, imp_ff, ↓w_X5_run_L40, ↓cv, e1]
      subst hkn
      refine s_J109 (C := C) (A := A) X1 C1 ok ha hlo (hw.evs ok _ _) hi (fun h' HO' TI' Y g1 g2 FY => hK h' HO' TI' (c_nl C) (Nat.le_refl _) (fun j hj => by have := hk5 j hj; omega) (fun j h1 h2 => by omega) Y g1 g2 (F1.trans FY))
    · have hkl : kk < c_nl C := by omega
      have e1 := nle_s (a := kk) (b := c_nl C) hkl (by omega)
      have gd := g_day (C := C) C1 ok hkl
      have hd1 := hk2 kk hk3 hkl
      have hd2 := hday40 kk
      by_cases hdd : c_day C kk = i
      · have e2 : nI (c_day C kk) = nI i := by rw [hdd]
        simp only [↓bt1, ↓bt2, ↓bt3, ↓bt4, ↓nmI_s, ↓nmJ_s, ↓letK_s, ↓nz_0, ↓nz_1, ↓nz_b, not_false_eq_true, not_true_eq_false, true_and, and_true, bI_0, bI_1, imp_tt, imp_ff, ↓w_X5_run_L40, ↓cv, ↓hv, hkl, e1, ↓gd, e2]
        refine s_happens (g := g) X1.2.1 C1 ok (by omega) hkl (fun h2 H2 F2 => ?_)
        have X2 := X1.hall F2 H2
        have F12 := F1.trans (F2.mono fun q => crsS_hall)
        have C2 := hC.frB F12 hlo
        have cv2 := C2.v ok
        have ir := d_isRain (g := g) C2 ok hkl
        have eev : pu_evs C i ho (kk + 1) = pu_ev C kk (pu_evs C i ho kk) := by rw [pu_evs, if_pos hdd]
        have fin : ∀ r : Bool, r = pu_rain C i (kk + 1) → M (nI (kk + 1)) (bI r) h2 := by
          rintro _ rfl
          refine hM _ _ _ ⟨kk + 1, rfl, by omega, by omega, rfl, ?_, by rw [eev]; exact X2, F12⟩ ?_
          · intro j hj
            by_cases e : j = kk
            · subst e; omega
            · exact hk5 j (by omega)
          · rw [hcl, nI_clamp (by omega)]
            omega
        have h10 : ¬ (1 : Int32) = 0 := by decide
        have f1 : M (nI kk + 1) 1 h2 = M (nI (kk + 1)) (bI true) h2 := by rw [nI_1 kk]; rfl
        have f0 : M (nI kk + 1) 0 h2 = M (nI (kk + 1)) (bI false) h2 := by rw [nI_1 kk]; rfl
        cases hr : pu_rain C i kk with
        | true =>
          simp only [↓bt1, ↓bt2, ↓bt3, ↓bt4, ↓nmI_s, ↓nmJ_s, ↓letK_s, ↓nz_0, ↓nz_1, ↓nz_b, not_false_eq_true, not_true_eq_false, true_and, and_true, bI_0, bI_1, imp_tt, imp_ff, h10, ↓w_X5_run_J96, ↓w_X5_run_J101]
          rw [f1]
          exact fin true (by rw [pu_rain, hr]; rfl)
        | false =>
          by_cases hw3 : c_what C kk = 3
          · have hw3' : decide (c_what C kk = 3) = true := decide_eq_true hw3
            simp only [↓bt1, ↓bt2, ↓bt3, ↓bt4, ↓nmI_s, ↓nmJ_s, ↓letK_s, ↓nz_0, ↓nz_1, ↓nz_b, not_false_eq_true, not_true_eq_false, true_and, and_true, bI_0, bI_1, imp_tt, imp_ff, ↓cv2, hkl, ↓ir, hw3', h10, ↓w_X5_run_J96, ↓w_X5_run_J101]
            rw [f1]
            exact fin true (by rw [pu_rain, hr, hw3', decide_eq_true hdd]; rfl)
          · have hw3' : decide (c_what C kk = 3) = false := decide_eq_false hw3
            simp only [↓bt1, ↓bt2, ↓bt3, ↓bt4, ↓nmI_s, ↓nmJ_s, ↓letK_s, ↓nz_0, ↓nz_1, ↓nz_b, not_false_eq_true, not_true_eq_false, true_and, and_true, bI_0, bI_1, imp_tt, imp_ff, ↓cv2, hkl, ↓ir, hw3', h10, ↓w_X5_run_J96, ↓w_X5_run_J101]
            rw [f0]
            exact fin false (by rw [pu_rain, hr, hw3']; simp)
      · have e2 : ¬ nI (c_day C kk) = nI i := fun z => hdd ((nI_eq (by omega) (by omega)).mp z)
        have off : ∀ j, kk ≤ j → j < c_nl C → ¬ c_day C j = i := fun j h1 h2 => by have := hsort kk j h1 h2; omega
        simp only [↓bt1, ↓bt2, ↓bt3, ↓bt4, ↓nmI_s, ↓nmJ_s, ↓letK_s, ↓nz_0, ↓nz_1, ↓nz_b, not_false_eq_true, not_true_eq_false, true_and, and_true, bI_0, bI_1, imp_tt, imp_ff, ↓w_X5_run_L40, ↓cv, ↓hv, hkl, e1, ↓gd, e2]
        rw [pu_evs_off C i ho (c_nl C) hk4 off, pu_rain_off C i (c_nl C) hk4 off] at hK
        refine s_J109 (C := C) (A := A) X1 C1 ok ha hlo (hw.evs ok _ _) hi (fun h' HO' TI' Y g1 g2 FY => hK h' HO' TI' kk hk4 (fun j hj => by have := hk5 j hj; omega) (fun j h1 h2 => by have := hsort kk j h1 h2; omega) Y g1 g2 (F1.trans FY))
  · have off : ∀ j, 0 ≤ j → j < k0 → ¬ c_day C j = i := fun j _ h2 => by have := hk1 j h2; omega
    have e1 : pu_evs C i ho k0 = ho := (pu_evs_off C i ho k0 (Nat.zero_le _) off).trans rfl
    have e2 : pu_rain C i k0 = false := (pu_rain_off C i k0 (Nat.zero_le _) off).trans rfl
    exact ⟨k0, rfl, Nat.le_refl _, hk0, by rw [e2]; rfl, fun j hj => by have := hk1 j hj; omega, by rw [e1]; exact hX, Fr.rfl⟩
theorem s_run {uns : Int32} {u v : Nat} {c0 : Option Nat} {d0 : Int32} {ho0 ti0 HO0 TI0 : List Int32} (hX : crsAt h a c0 d0 ho0 ti0 HO0 TI0) (hC : CW lo h c C A) (ok : okC C) (ha : g.1 ≤ a) (hlo : a + 6 ≤ lo) (huv : (∀ d : Nat, d ≤ 40 → ¬ nI d = uns) ∨ (u < c_nu C ∧ v < c_nu C))
    (hK : ∀ h' HO TI, crsAt h' a (some c) (pu_hist C uns u v (0, pu_begin C ho0 ti0 (c_nu C)) 41).1 (pu_hist C uns u v (0, pu_begin C ho0 ti0 (c_nu C)) 41).2.1 (pu_hist C uns u v (0, pu_begin C ho0 ti0 (c_nu C)) 41).2.2 HO TI → hisP C uns u v (0, pu_begin C ho0 ti0 (c_nu C)) 41 HO TI → Fr (crsS a) h h' → K () h') : w_X5_run g (some a) (some c) uns (nI u) (nI v) K E h := by
  have hv := hX.v
  have hh := hX.2.1.v
  have nu5 : c_nu C ≤ 5 := ok.2.2.2.1
  simp only [↓bt1, ↓bt2, ↓bt3, ↓bt4, ↓nmI_s, ↓nmJ_s, ↓letK_s, ↓nz_0, ↓nz_1, ↓nz_b, not_false_eq_true, not_true_eq_false, true_and, and_true, bI_0, bI_1, imp_tt, imp_ff, ↓w_X5_run, ↓hv, hh]
  refine s_begin (C := C) (A := A) hX.2.1 hC ok (by omega) (by omega) (fun h1 H1 F1 => ?_)
  have X1 := hX.hall F1 H1
  generalize hq : ((0 : Int32), pu_begin C ho0 ti0 (c_nu C)) = q at *
  have q1 : q.1 = 0 := by rw [← hq]
  have q2 : q.2 = pu_begin C ho0 ti0 (c_nu C) := by rw [← hq]
  have hoq : okH C q.2.1 := by
    rw [q2]
    intro x hx
    exact okH.begin ok ho0 ti0 (c_nu C) (Nat.le_refl _) hX.2.1.2.2.2.1 x hx
  refine Lp2_for 41 (fun i a1 a2 h' => ∃ kk HO TI, a1 = nI kk ∧ a2 = nI i ∧ kk ≤ c_nl C ∧ (∀ j, j < kk → c_day C j < i) ∧ (∀ j, kk ≤ j → j < c_nl C → i ≤ c_day C j) ∧ crsAt h' a (some c) (pu_hist C uns u v q i).1 (pu_hist C uns u v q i).2.1 (pu_hist C uns u v q i).2.2 HO TI ∧ hisP C uns u v q i HO TI ∧ Fr (crsS a) h h' ∧ okH C (pu_hist C uns u v q i).2.1) ?_ ?_ ⟨0, HO0, TI0, rfl, rfl, Nat.zero_le _, fun j hj => by omega, fun j _ _ => Nat.zero_le _, ?_, fun d x hd => by omega, F1.mono fun q => crsS_hall, hoq⟩
  · rintro i _ _ h2 L hi ⟨kk, HO, TI, rfl, rfl, hkk, hk1, hk2, X2, hP, F2, hw⟩ hL
    have e1 : ¬ 40 < nI i := by
      have : ∀ i : Nat, i < 41 → ¬ 40 < nI i := by decide
      exact this i hi
    have key : ∀ h3, crsAt h3 a (some c) (pu_hist C uns u v q i).1 (pu_uns uns u v i (pu_hist C uns u v q i).2.1) (pu_hist C uns u v q i).2.2 HO TI → Fr (crsS a) h h3 → w_X5_run_J37 g (some a) (some c) uns (nI u) (nI v) (nI kk) (nI i) K E L h3 := by
      intro h3 X3 F3
      refine s_J37 (C := C) (A := A) X3 (hC.frB F3 hlo) ok ha hlo (hw.uns huv (by omega)) (by omega) hkk hk1 hk2 (fun h4 HO' TI' kk' b1 b2 b3 Y g1 g2 FY => hL _ _ _ ⟨kk', HO', TI', rfl, rfl, b1, b2, b3, Y, ?_, F3.trans FY, ?_⟩)
      · intro d x hd hx
        rw [g1, g2]
        by_cases hdi : d = i
        · subst hdi
          rw [if_pos (by omega), if_pos (by omega), show 5 * d + x - 5 * d = x by omega]
          exact ⟨rfl, rfl⟩
        · rw [if_neg (by omega), if_neg (by omega)]
          exact hP d x (by omega) hx
      · exact ((hw.uns huv (by omega)).evs ok i (c_nl C)).e3 _
    have hv2 := X2.v
    have hh2 := X2.2.1.v
    by_cases hu : nI i = uns
    · have e2 : pu_uns uns u v i (pu_hist C uns u v q i).2.1 = pu_swap (pu_hist C uns u v q i).2.1 u v := by unfold pu_uns; rw [if_pos hu]
      obtain ⟨hu1, hu2⟩ : u < c_nu C ∧ v < c_nu C := by
        rcases huv with z | z
        · exact absurd hu (z i (by omega))
        · exact z
      simp only [↓bt1, ↓bt2, ↓bt3, ↓bt4, ↓nmI_s, ↓nmJ_s, ↓letK_s, ↓nz_0, ↓nz_1, ↓nz_b, not_false_eq_true, not_true_eq_false, true_and, and_true, bI_0, bI_1, imp_tt, imp_ff, ↓w_X5_run_L14, e1, ↓bt3 hu, ↓hv2, hh2]
      refine s_change X2.2.1 (by omega) (by omega) (by omega) (fun h3 H3 F3 => ?_)
      rw [e2] at key
      exact key h3 (X2.hall F3 H3) (F2.trans (F3.mono fun q => crsS_hall))
    · have e2 : pu_uns uns u v i (pu_hist C uns u v q i).2.1 = (pu_hist C uns u v q i).2.1 := by unfold pu_uns; rw [if_neg hu]
      rw [e2] at key
      simp only [↓bt1, ↓bt2, ↓bt3, ↓bt4, ↓nmI_s, ↓nmJ_s, ↓letK_s, ↓nz_0, ↓nz_1, ↓nz_b, not_false_eq_true, not_true_eq_false, true_and, and_true, bI_0, bI_1, imp_tt, imp_ff, ↓w_X5_run_L14, e1, ↓bt4 hu]
      exact key h2 X2 F2
  · rintro _ _ h2 L ⟨kk, HO, TI, rfl, rfl, hkk, hk1, hk2, X2, hP, F2, hw⟩
    have e1 : 40 < nI 41 := by decide
    simp only [↓bt1, ↓bt2, ↓bt3, ↓bt4, ↓nmI_s, ↓nmJ_s, ↓letK_s, ↓nz_0, ↓nz_1, ↓nz_b, not_false_eq_true, not_true_eq_false, true_and, and_true, bI_0, bI_1, imp_tt, imp_ff, ↓w_X5_run_L14, ↓bt1 e1]
    exact hK h2 HO TI X2 hP F2
  · show crsAt h1 a (some c) q.1 q.2.1 q.2.2 HO0 TI0
    rw [q1, q2]
    exact X1
end Run
