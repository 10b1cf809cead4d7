set_option maxRecDepth 100000
/-! ===== booleans ===== -/
def bI (b : Bool) : Int32 := if b then 1 else 0
theorem bI_0 : bI false = 0 := rfl
theorem bI_1 : bI true = 1 := rfl
theorem nz_b (b : Bool) (P : Prop) : nz .boolean (bI b) P = P := by
  cases b
  · exact nz_0 P
  · exact nz_1 P
theorem bI_z (b : Bool) : (bI b = 0) = (b = false) := by cases b <;> simp [bI]
/-! ===== what the kinds and sorts answer ===== -/
def canP (s : Nat) : Bool := s != 1
def leaveP (s : Nat) : Bool := s == 2
def passP (k : Nat) (r : Bool) : Bool := if k = 3 then !r else if k = 2 then false else r
def lapseP (k : Nat) : Bool := k != 0
def titledP (k : Nat) : Bool := k != 2
def gustP (k : Nat) (x : Int32) : Int32 := if k = 0 then x / 2 else x
section Kinds
variable {g : GT} {h : AH} {lo a : Nat} {C : PC} {A : PA}
theorem d_canHold (H : CW lo h a C A) (ok : okC C) {p : Nat} (hp : p < c_np C) (K : Int32 → AH → Prop) : ((isO h (some (A.2.1 0 p)) 12 ∧ w_X11_canHold g (some (A.2.1 0 p)) K E0 h) ∨ (isO h (some (A.2.1 0 p)) 13 ∧ w_X13_canHold g (some (A.2.1 0 p)) K E0 h) ∨ (isO h (some (A.2.1 0 p)) 14 ∧ w_X11_canHold g (some (A.2.1 0 p)) K E0 h)) = K (bI (canP (c_sort C p))) h := by
  have hv := H.v ok
  have hs : c_sort C p < 3 := ok.2.2.2.2.2.2.2.2.2.2.1 p
  have : c_sort C p = 0 ∨ c_sort C p = 1 ∨ c_sort C p = 2 := by omega
  rcases this with e | e | e <;> simp only [↓bt1, ↓bt2, ↓bt3, ↓bt4, ↓nmI_s, ↓nmJ_s, ↓letK_s, ↓nz_0, ↓nz_1, ↓nz_b, not_false_eq_true, not_true_eq_false, true_and, and_true, bI_0, bI_1, imp_tt, imp_ff, hv, hp, e, w_X11_canHold, w_X13_canHold, canP] <;> simp [bI]
theorem d_doesLeave (H : CW lo h a C A) (ok : okC C) {p : Nat} (hp : p < c_np C) (K : Int32 → AH → Prop) : ((isO h (some (A.2.1 0 p)) 12 ∧ w_X11_doesLeave g (some (A.2.1 0 p)) K E0 h) ∨ (isO h (some (A.2.1 0 p)) 13 ∧ w_X11_doesLeave g (some (A.2.1 0 p)) K E0 h) ∨ (isO h (some (A.2.1 0 p)) 14 ∧ w_X14_doesLeave g (some (A.2.1 0 p)) K E0 h)) = K (bI (leaveP (c_sort C p))) h := by
  have hv := H.v ok
  have hs : c_sort C p < 3 := ok.2.2.2.2.2.2.2.2.2.2.1 p
  have : c_sort C p = 0 ∨ c_sort C p = 1 ∨ c_sort C p = 2 := by omega
  rcases this with e | e | e <;> simp only [↓bt1, ↓bt2, ↓bt3, ↓bt4, ↓nmI_s, ↓nmJ_s, ↓letK_s, ↓nz_0, ↓nz_1, ↓nz_b, not_false_eq_true, not_true_eq_false, true_and, and_true, bI_0, bI_1, imp_tt, imp_ff, hv, hp, e, w_X11_doesLeave, w_X14_doesLeave, leaveP] <;> simp [bI]
theorem d_sort (H : CW lo h a C A) (ok : okC C) {p : Nat} (hp : p < c_np C) (K : Int32 → AH → Prop) : ((isO h (some (A.2.1 0 p)) 12 ∧ w_X12_sort g (some (A.2.1 0 p)) K E0 h) ∨ (isO h (some (A.2.1 0 p)) 13 ∧ w_X13_sort g (some (A.2.1 0 p)) K E0 h) ∨ (isO h (some (A.2.1 0 p)) 14 ∧ w_X14_sort g (some (A.2.1 0 p)) K E0 h)) = K (nI (c_sort C p)) h := by
  have hv := H.v ok
  have hs : c_sort C p < 3 := ok.2.2.2.2.2.2.2.2.2.2.1 p
  have : c_sort C p = 0 ∨ c_sort C p = 1 ∨ c_sort C p = 2 := by omega
  rcases this with e | e | e <;> simp only [↓bt1, ↓bt2, ↓bt3, ↓bt4, ↓nmI_s, ↓nmJ_s, ↓letK_s, ↓nz_0, ↓nz_1, ↓nz_b, not_false_eq_true, not_true_eq_false, true_and, and_true, bI_0, bI_1, imp_tt, imp_ff, hv, hp, e, w_X12_sort, w_X13_sort, w_X14_sort] <;> simp [nI] <;> rfl
theorem k4 (ok : okC C) (u : Nat) : c_kind C u = 0 ∨ c_kind C u = 1 ∨ c_kind C u = 2 ∨ c_kind C u = 3 := by
  have : c_kind C u < 4 := ok.2.2.2.2.2.2.2.2.2.2.2.1 u
  omega
theorem d_kind (H : CW lo h a C A) (ok : okC C) {u : Nat} (hu : u < c_nu C) (K : Int32 → AH → Prop) : ((isO h (some (A.2.1 1 u)) 16 ∧ w_X16_kind g (some (A.2.1 1 u)) K E0 h) ∨ (isO h (some (A.2.1 1 u)) 17 ∧ w_X17_kind g (some (A.2.1 1 u)) K E0 h) ∨ (isO h (some (A.2.1 1 u)) 18 ∧ w_X18_kind g (some (A.2.1 1 u)) K E0 h) ∨ (isO h (some (A.2.1 1 u)) 19 ∧ w_X19_kind g (some (A.2.1 1 u)) K E0 h)) = K (nI (c_kind C u)) h := by
  have hv := H.v ok
  rcases k4 ok u with e | e | e | e <;> simp only [↓bt1, ↓bt2, ↓bt3, ↓bt4, ↓nmI_s, ↓nmJ_s, ↓letK_s, ↓nz_0, ↓nz_1, ↓nz_b, not_false_eq_true, not_true_eq_false, true_and, and_true, bI_0, bI_1, imp_tt, imp_ff, hv, hu, e, w_X16_kind, w_X17_kind, w_X18_kind, w_X19_kind] <;> simp [nI] <;> rfl
theorem d_passes (H : CW lo h a C A) (ok : okC C) {u : Nat} (hu : u < c_nu C) (r : Bool) (K : Int32 → AH → Prop) : ((isO h (some (A.2.1 1 u)) 16 ∧ w_X15_passes g (some (A.2.1 1 u)) (bI r) K E0 h) ∨ (isO h (some (A.2.1 1 u)) 17 ∧ w_X15_passes g (some (A.2.1 1 u)) (bI r) K E0 h) ∨ (isO h (some (A.2.1 1 u)) 18 ∧ w_X18_passes g (some (A.2.1 1 u)) (bI r) K E0 h) ∨ (isO h (some (A.2.1 1 u)) 19 ∧ w_X19_passes g (some (A.2.1 1 u)) (bI r) K E0 h)) = K (bI (passP (c_kind C u) r)) h := by
  have hv := H.v ok
  cases r <;> rcases k4 ok u with e | e | e | e <;> simp only [↓bt1, ↓bt2, ↓bt3, ↓bt4, ↓nmI_s, ↓nmJ_s, ↓letK_s, ↓nz_0, ↓nz_1, ↓nz_b, not_false_eq_true, not_true_eq_false, true_and, and_true, bI_0, bI_1, imp_tt, imp_ff, hv, hu, e, w_X15_passes, w_X18_passes, w_X19_passes, passP] <;> simp [bI, nz_0, nz_1]
theorem d_doesLapse (H : CW lo h a C A) (ok : okC C) {u : Nat} (hu : u < c_nu C) (K : Int32 → AH → Prop) : ((isO h (some (A.2.1 1 u)) 16 ∧ w_X16_doesLapse g (some (A.2.1 1 u)) K E0 h) ∨ (isO h (some (A.2.1 1 u)) 17 ∧ w_X15_doesLapse g (some (A.2.1 1 u)) K E0 h) ∨ (isO h (some (A.2.1 1 u)) 18 ∧ w_X15_doesLapse g (some (A.2.1 1 u)) K E0 h) ∨ (isO h (some (A.2.1 1 u)) 19 ∧ w_X15_doesLapse g (some (A.2.1 1 u)) K E0 h)) = K (bI (lapseP (c_kind C u))) h := by
  have hv := H.v ok
  rcases k4 ok u with e | e | e | e <;> simp only [↓bt1, ↓bt2, ↓bt3, ↓bt4, ↓nmI_s, ↓nmJ_s, ↓letK_s, ↓nz_0, ↓nz_1, ↓nz_b, not_false_eq_true, not_true_eq_false, true_and, and_true, bI_0, bI_1, imp_tt, imp_ff, hv, hu, e, w_X16_doesLapse, w_X15_doesLapse, lapseP] <;> simp [bI]
theorem d_isTitled (H : CW lo h a C A) (ok : okC C) {u : Nat} (hu : u < c_nu C) (K : Int32 → AH → Prop) : ((isO h (some (A.2.1 1 u)) 16 ∧ w_X15_isTitled g (some (A.2.1 1 u)) K E0 h) ∨ (isO h (some (A.2.1 1 u)) 17 ∧ w_X15_isTitled g (some (A.2.1 1 u)) K E0 h) ∨ (isO h (some (A.2.1 1 u)) 18 ∧ w_X18_isTitled g (some (A.2.1 1 u)) K E0 h) ∨ (isO h (some (A.2.1 1 u)) 19 ∧ w_X15_isTitled g (some (A.2.1 1 u)) K E0 h)) = K (bI (titledP (c_kind C u))) h := by
  have hv := H.v ok
  rcases k4 ok u with e | e | e | e <;> simp only [↓bt1, ↓bt2, ↓bt3, ↓bt4, ↓nmI_s, ↓nmJ_s, ↓letK_s, ↓nz_0, ↓nz_1, ↓nz_b, not_false_eq_true, not_true_eq_false, true_and, and_true, bI_0, bI_1, imp_tt, imp_ff, hv, hu, e, w_X18_isTitled, w_X15_isTitled, titledP] <;> simp [bI]
theorem d_gust (H : CW lo h a C A) (ok : okC C) {u : Nat} (hu : u < c_nu C) (x : Int32) (K : Int32 → AH → Prop) : ((isO h (some (A.2.1 1 u)) 16 ∧ w_X16_gust g (some (A.2.1 1 u)) x K E0 h) ∨ (isO h (some (A.2.1 1 u)) 17 ∧ w_X15_gust g (some (A.2.1 1 u)) x K E0 h) ∨ (isO h (some (A.2.1 1 u)) 18 ∧ w_X15_gust g (some (A.2.1 1 u)) x K E0 h) ∨ (isO h (some (A.2.1 1 u)) 19 ∧ w_X15_gust g (some (A.2.1 1 u)) x K E0 h)) = K (gustP (c_kind C u) x) h := by
  have hv := H.v ok
  rcases k4 ok u with e | e | e | e <;> simp only [↓bt1, ↓bt2, ↓bt3, ↓bt4, ↓nmI_s, ↓nmJ_s, ↓letK_s, ↓nz_0, ↓nz_1, ↓nz_b, not_false_eq_true, not_true_eq_false, true_and, and_true, bI_0, bI_1, imp_tt, imp_ff, hv, hu, e, w_X16_gust, w_X15_gust, gustP] <;> simp
end Kinds
