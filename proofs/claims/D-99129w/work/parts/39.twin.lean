set_option maxRecDepth 100000
/-! ===== the twin's county, its rows ===== -/
def mwF (c : Nat) (C : PC) (nn : Int32) : List Value := [.int (nI (c_lapse C)), .int (nI (c_gust C)), .int (nI (c_rains C)), .int (nI (c_np C)), .int (nI (c_nu C)), .int (nI (c_nl C)), .int (nI (c_nc C)), .int nn, va_rf (some (c + 1)), va_rf (some (c + 2)), va_rf (some (c + 3)), va_rf (some (c + 4)), va_rf (some (c + 5)), va_rf (some (c + 6)), va_rf (some (c + 7)), va_rf (some (c + 8)), va_rf (some (c + 9)), va_rf (some (c + 10)), va_rf (some (c + 11)), va_rf (some (c + 12)), va_rf (some (c + 13)), va_rf (some (c + 14)), va_rf (some (c + 15))]
def mwA (h : AH) (a n m : Nat) (F : Nat → Int32) : Prop := ∃ xs : List Int32, h.1 a = some (.inl (0, .inl xs)) ∧ xs.length = n ∧ ∀ i, i < m → xs.getD i 0 = F i
def MW (lo : Nat) (h : AH) (c : Nat) (C : PC) : Prop := lo ≤ c ∧ (∃ nn, h.1 c = some (.inr (26, mwF c C nn))) ∧ mwA h (c + 1) 6 (c_np C) (fun p => nI (c_sort C p)) ∧ mwA h (c + 2) 5 (c_nu C) (fun u => nI (c_kind C u)) ∧ mwA h (c + 3) 5 (c_nu C) (fun u => nI (c_lands C u)) ∧ mwA h (c + 4) 5 (c_nu C) (fun u => nI (c_ribs C u)) ∧ mwA h (c + 5) 5 (c_nu C) (fun u => c_wth C u) ∧
  mwA h (c + 6) 16 (c_nl C) (fun k => nI (c_what C k)) ∧ mwA h (c + 7) 16 (c_nl C) (fun k => if c_what C k = 3 then 0 else nI (c_one C k)) ∧ mwA h (c + 8) 16 (c_nl C) (fun k => if c_what C k = 0 ∨ c_what C k = 2 then nI (c_oth C k) else 0) ∧ mwA h (c + 9) 16 (c_nl C) (fun k => nI (c_day C k)) ∧ mwA h (c + 10) 6 (c_nc C) (fun k => nI (c_clp C k)) ∧ mwA h (c + 11) 6 (c_nc C) (fun k => nI (c_clu C k)) ∧ mwA h (c + 12) 6 (c_nc C) (fun k => nI (c_cld C k))
theorem mwA.fr {h h' : AH} {lo a n m : Nat} {F : Nat → Int32} (H : mwA h a n m F) (ha : lo ≤ a) (hf : ∀ b, lo ≤ b → h'.1 b = h.1 b) : mwA h' a n m F := by
  obtain ⟨xs, h1, h2⟩ := H
  exact ⟨xs, (hf a ha).trans h1, h2⟩
theorem MW.fr {lo : Nat} {h h' : AH} {c : Nat} {C : PC} (H : MW lo h c C) (hf : ∀ b, lo ≤ b → h'.1 b = h.1 b) : MW lo h' c C := by
  obtain ⟨h0, ⟨nn, h1⟩, a1, a2, a3, a4, a5, a6, a7, a8, a9, a10, a11, a12⟩ := H
  exact ⟨h0, ⟨nn, (hf c h0).trans h1⟩, a1.fr (by omega) hf, a2.fr (by omega) hf, a3.fr (by omega) hf, a4.fr (by omega) hf, a5.fr (by omega) hf, a6.fr (by omega) hf, a7.fr (by omega) hf, a8.fr (by omega) hf, a9.fr (by omega) hf, a10.fr (by omega) hf, a11.fr (by omega) hf, a12.fr (by omega) hf⟩
theorem mwA.v {h : AH} {a n m : Nat} {F : Nat → Int32} (H : mwA h a n m F) (hm : m ≤ n) (hn : n < 2 ^ 31) {u : Nat} (hu : u < m) (K : Int32 → Prop) : aI h (some a) 0 (nI u) K = K (F u) := by
  obtain ⟨xs, h1, h2, h3⟩ := H
  rw [aI_v h1 (by omega) (by omega), h3 u hu]
theorem MW.v {lo : Nat} {h : AH} {c : Nat} {C : PC} (H : MW lo h c C) (ok : okC C) :
    (∀ K, gI h (some c) [26] 0 K = K (nI (c_lapse C))) ∧ (∀ K, gI h (some c) [26] 1 K = K (nI (c_gust C))) ∧ (∀ K, gI h (some c) [26] 2 K = K (nI (c_rains C))) ∧ (∀ K, gI h (some c) [26] 3 K = K (nI (c_np C))) ∧ (∀ K, gI h (some c) [26] 4 K = K (nI (c_nu C))) ∧ (∀ K, gI h (some c) [26] 5 K = K (nI (c_nl C))) ∧ (∀ K, gI h (some c) [26] 6 K = K (nI (c_nc C))) ∧
    (∀ K, gR h (some c) [26] 8 K = K (some (c + 1))) ∧ (∀ K, gR h (some c) [26] 9 K = K (some (c + 2))) ∧ (∀ K, gR h (some c) [26] 10 K = K (some (c + 3))) ∧ (∀ K, gR h (some c) [26] 11 K = K (some (c + 4))) ∧ (∀ K, gR h (some c) [26] 12 K = K (some (c + 5))) ∧ (∀ K, gR h (some c) [26] 13 K = K (some (c + 6))) ∧ (∀ K, gR h (some c) [26] 14 K = K (some (c + 7))) ∧ (∀ K, gR h (some c) [26] 15 K = K (some (c + 8))) ∧ (∀ K, gR h (some c) [26] 16 K = K (some (c + 9))) ∧ (∀ K, gR h (some c) [26] 17 K = K (some (c + 10))) ∧ (∀ K, gR h (some c) [26] 18 K = K (some (c + 11))) ∧ (∀ K, gR h (some c) [26] 19 K = K (some (c + 12))) ∧
    (∀ p K, p < c_np C → aI h (some (c + 1)) 0 (nI p) K = K (nI (c_sort C p))) ∧ (∀ u K, u < c_nu C → aI h (some (c + 2)) 0 (nI u) K = K (nI (c_kind C u))) ∧ (∀ u K, u < c_nu C → aI h (some (c + 3)) 0 (nI u) K = K (nI (c_lands C u))) ∧ (∀ u K, u < c_nu C → aI h (some (c + 4)) 0 (nI u) K = K (nI (c_ribs C u))) ∧ (∀ u K, u < c_nu C → aI h (some (c + 5)) 0 (nI u) K = K (c_wth C u)) ∧
    (∀ k K, k < c_nl C → aI h (some (c + 6)) 0 (nI k) K = K (nI (c_what C k))) ∧ (∀ k K, k < c_nl C → aI h (some (c + 7)) 0 (nI k) K = K (if c_what C k = 3 then 0 else nI (c_one C k))) ∧ (∀ k K, k < c_nl C → aI h (some (c + 8)) 0 (nI k) K = K (if c_what C k = 0 ∨ c_what C k = 2 then nI (c_oth C k) else 0)) ∧ (∀ k K, k < c_nl C → aI h (some (c + 9)) 0 (nI k) K = K (nI (c_day C k))) ∧
    (∀ k K, k < c_nc C → aI h (some (c + 10)) 0 (nI k) K = K (nI (c_clp C k))) ∧ (∀ k K, k < c_nc C → aI h (some (c + 11)) 0 (nI k) K = K (nI (c_clu C k))) ∧ (∀ k K, k < c_nc C → aI h (some (c + 12)) 0 (nI k) K = K (nI (c_cld C k))) := by
  obtain ⟨h0, ⟨nn, h1⟩, a1, a2, a3, a4, a5, a6, a7, a8, a9, a10, a11, a12⟩ := H
  obtain ⟨n1, n2, n3, n4, n5, n6, -⟩ := ok
  have m : 26 ∈ [26] := by decide
  exact ⟨fun K => gI_v h1 m rfl K, fun K => gI_v h1 m rfl K, fun K => gI_v h1 m rfl K, fun K => gI_v h1 m rfl K, fun K => gI_v h1 m rfl K, fun K => gI_v h1 m rfl K, fun K => gI_v h1 m rfl K, fun K => gR_v h1 m rfl K, fun K => gR_v h1 m rfl K, fun K => gR_v h1 m rfl K, fun K => gR_v h1 m rfl K, fun K => gR_v h1 m rfl K, fun K => gR_v h1 m rfl K, fun K => gR_v h1 m rfl K, fun K => gR_v h1 m rfl K, fun K => gR_v h1 m rfl K, fun K => gR_v h1 m rfl K, fun K => gR_v h1 m rfl K, fun K => gR_v h1 m rfl K,
    fun p K hp => a1.v (by omega) (by omega) hp K, fun u K hu => a2.v (by omega) (by omega) hu K, fun u K hu => a3.v (by omega) (by omega) hu K, fun u K hu => a4.v (by omega) (by omega) hu K, fun u K hu => a5.v (by omega) (by omega) hu K, fun k K hk => a6.v (by omega) (by omega) hk K, fun k K hk => a7.v (by omega) (by omega) hk K, fun k K hk => a8.v (by omega) (by omega) hk K, fun k K hk => a9.v (by omega) (by omega) hk K, fun k K hk => a10.v (by omega) (by omega) hk K, fun k K hk => a11.v (by omega) (by omega) hk K, fun k K hk => a12.v (by omega) (by omega) hk K⟩
/-- the twin itself: its county, the row that is, the row to try on -/
def mV (h : AH) (m c va xa : Nat) : Prop := ∃ fs : List Value, h.1 m = some (.inr (8, fs)) ∧ fs[3]? = some (va_rf (some c)) ∧ fs[15]? = some (va_rf (some va)) ∧ fs[16]? = some (va_rf (some xa))
theorem mV.v {h : AH} {m c va xa : Nat} (H : mV h m c va xa) : (∀ K, gR h (some m) [8] 3 K = K (some c)) ∧ (∀ K, gR h (some m) [8] 15 K = K (some va)) ∧ (∀ K, gR h (some m) [8] 16 K = K (some xa)) ∧ (isO h (some m) 8 = True) := by
  obtain ⟨fs, h1, h2, h3, h4⟩ := H
  have mm : 8 ∈ [8] := by decide
  exact ⟨fun K => gR_v h1 mm h2 K, fun K => gR_v h1 mm h3 K, fun K => gR_v h1 mm h4 K, by rw [isO_v h1]; exact eq_self 8⟩
theorem mV.fr {h h' : AH} {m c va xa : Nat} (H : mV h m c va xa) (hf : h'.1 m = h.1 m) : mV h' m c va xa := by
  obtain ⟨fs, h1, h2⟩ := H
  exact ⟨fs, hf.trans h1, h2⟩
def rowL (q : HP) : List Int32 := q.2.1 ++ q.2.2 ++ [q.1]
def rowAt (h : AH) (r : Nat) (q : HP) : Prop := h.1 r = some (.inl (0, .inl (rowL q))) ∧ q.2.1.length = 5 ∧ q.2.2.length = 5
def onlyS (r : Nat) : Nat → Prop := fun b => b = r
theorem rowL_ho (q : HP) (l1 : q.2.1.length = 5) {u : Nat} (hu : u < 5) : (rowL q).getD u 0 = q.2.1.getD u 0 := by
  unfold rowL
  rw [List.append_assoc, List.getD_eq_getElem?_getD, List.getElem?_append_left (by omega), ← List.getD_eq_getElem?_getD]
theorem rowL_ti (q : HP) (l1 : q.2.1.length = 5) (l2 : q.2.2.length = 5) {u : Nat} (hu : u < 5) : (rowL q).getD (5 + u) 0 = q.2.2.getD u 0 := by
  unfold rowL
  rw [List.getD_eq_getElem?_getD, List.getElem?_append_left (by rw [List.length_append]; omega), List.getElem?_append_right (by omega), l1, show 5 + u - 5 = u by omega, ← List.getD_eq_getElem?_getD]
theorem rowL_d (q : HP) (l1 : q.2.1.length = 5) (l2 : q.2.2.length = 5) : (rowL q).getD 10 0 = q.1 := by
  unfold rowL
  rw [List.getD_eq_getElem?_getD, List.getElem?_append_right (by rw [List.length_append]; omega), List.length_append, l1, l2]
  rfl
theorem rowL_len (q : HP) (l1 : q.2.1.length = 5) (l2 : q.2.2.length = 5) : (rowL q).length = 11 := by
  unfold rowL
  rw [List.length_append, List.length_append, l1, l2]
  rfl
theorem rowL_sho (q : HP) (l1 : q.2.1.length = 5) {u : Nat} (hu : u < 5) (x : Int32) : (rowL q).set u x = rowL (q.1, q.2.1.set u x, q.2.2) := by
  unfold rowL
  rw [List.append_assoc, List.set_append_left _ _ (by omega), ← List.append_assoc]
theorem rowL_sti (q : HP) (l1 : q.2.1.length = 5) (l2 : q.2.2.length = 5) {u : Nat} (hu : u < 5) (x : Int32) : (rowL q).set (5 + u) x = rowL (q.1, q.2.1, q.2.2.set u x) := by
  unfold rowL
  rw [List.set_append_left _ _ (by rw [List.length_append]; omega), List.set_append_right _ _ (by omega), l1, show 5 + u - 5 = u by omega]
theorem rowL_sd (q : HP) (l1 : q.2.1.length = 5) (l2 : q.2.2.length = 5) (x : Int32) : (rowL q).set 10 x = rowL (x, q.2.1, q.2.2) := by
  unfold rowL
  rw [List.set_append_right _ _ (by rw [List.length_append]; omega), List.length_append, l1, l2]
  rfl
theorem rowAt.v {h : AH} {r : Nat} {q : HP} (H : rowAt h r q) : (∀ u K, u < 5 → aI h (some r) 0 (0 + nI u) K = K (q.2.1.getD u 0)) ∧ (∀ u K, u < 5 → aI h (some r) 0 (5 + nI u) K = K (q.2.2.getD u 0)) ∧ (∀ K, aI h (some r) 0 10 K = K q.1) ∧ (∀ j K, j < 11 → aI h (some r) 0 (nI j) K = K ((rowL q).getD j 0)) := by
  obtain ⟨h1, l1, l2⟩ := H
  have ll := rowL_len q l1 l2
  refine ⟨fun u K hu => ?_, fun u K hu => ?_, fun K => ?_, fun j K hj => aI_v h1 (by omega) (by omega) K⟩
  · rw [show (0 : Int32) + nI u = nI u from Int32.zero_add _, aI_v h1 (by omega) (by omega), rowL_ho q l1 hu]
  · rw [show (5 : Int32) + nI u = nI (5 + u) from nI_add 5 u, aI_v h1 (by omega) (by omega), rowL_ti q l1 l2 hu]
  · rw [show (10 : Int32) = nI 10 from rfl, aI_v h1 (by omega) (by omega), rowL_d q l1 l2]
theorem rowAt.fr {h h' : AH} {r : Nat} {q : HP} (H : rowAt h r q) (hf : h'.1 r = h.1 r) : rowAt h' r q := ⟨hf.trans H.1, H.2⟩
section Rows8
variable {g : GT} {h : AH} {r : Nat} {q : HP}
theorem r_ho (H : rowAt h r q) (ha : g.1 ≤ r) {u : Nat} (hu : u < 5) (x : Int32) {K : AH → Prop} (k : ∀ h', rowAt h' r (q.1, q.2.1.set u x, q.2.2) → Fr (onlyS r) h h' → K h') : sI g h (some r) 0 (0 + nI u) x K := by
  obtain ⟨h1, l1, l2⟩ := H
  have ll := rowL_len q l1 l2
  rw [show (0 : Int32) + nI u = nI u from Int32.zero_add _, sI_v ha h1 (by omega) (by omega), rowL_sho q l1 hu]
  exact k _ ⟨by rw [upd_s, if_pos rfl], by simp [l1], l2⟩ (Fr.upd rfl)
theorem r_ti (H : rowAt h r q) (ha : g.1 ≤ r) {u : Nat} (hu : u < 5) (x : Int32) {K : AH → Prop} (k : ∀ h', rowAt h' r (q.1, q.2.1, q.2.2.set u x) → Fr (onlyS r) h h' → K h') : sI g h (some r) 0 (5 + nI u) x K := by
  obtain ⟨h1, l1, l2⟩ := H
  have ll := rowL_len q l1 l2
  rw [show (5 : Int32) + nI u = nI (5 + u) from nI_add 5 u, sI_v ha h1 (by omega) (by omega), rowL_sti q l1 l2 hu]
  exact k _ ⟨by rw [upd_s, if_pos rfl], l1, by simp [l2]⟩ (Fr.upd rfl)
theorem r_dr (H : rowAt h r q) (ha : g.1 ≤ r) (x : Int32) {K : AH → Prop} (k : ∀ h', rowAt h' r (x, q.2.1, q.2.2) → Fr (onlyS r) h h' → K h') : sI g h (some r) 0 10 x K := by
  obtain ⟨h1, l1, l2⟩ := H
  have ll := rowL_len q l1 l2
  rw [show (10 : Int32) = nI 10 from rfl, sI_v ha h1 (by omega) (by omega), rowL_sd q l1 l2]
  exact k _ ⟨by rw [upd_s, if_pos rfl], l1, l2⟩ (Fr.upd rfl)
end Rows8
