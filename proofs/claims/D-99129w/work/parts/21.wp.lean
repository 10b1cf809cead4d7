set_option maxRecDepth 100000
def w_J0_init (g : GT) (v0 : Option Nat) (K : Unit → AH → Prop) (E : Nat → AH → Prop) (h : AH) : Prop :=
  ¬ v0 = none ∧ (pV g h v0 [3, 10] 0 (va_rf v0) fun h =>
  pV g h v0 [3, 10] 1 (va_rf (g.2.2.2.2 0)) fun h =>
  pV g h v0 [3, 10] 2 (va_rf (g.2.2.2.2 1)) fun h =>
  False)
def w_J1_init_2 (g : GT) (v0 : Option Nat) (K : Unit → AH → Prop) (E : Nat → AH → Prop) (h : AH) : Prop :=
  ¬ v0 = none ∧ w_J0_init g v0 (fun _ h =>
  K () h) E0 h
def w_J2_init_2 (g : GT) (v0 : Option Nat) (K : Unit → AH → Prop) (E : Nat → AH → Prop) (h : AH) : Prop :=
  ¬ v0 = none ∧ w_J1_init_2 g v0 (fun _ h =>
  K () h) E0 h
def w_J9_init (g : GT) (v0 : Option Nat) (K : Unit → AH → Prop) (E : Nat → AH → Prop) (h : AH) : Prop :=
  ¬ v0 = none ∧ w_J2_init_2 g v0 (fun _ h =>
  K () h) E0 h
def w_X1_led_J55 (g : GT)  (K : Int32 → AH → Prop) (E : Nat → AH → Prop) (h : AH) : Prop :=
  nO g h 10 6 [va_rf none, va_rf none, va_rf none, va_rf none, va_rf none, .int 0] fun x3 h =>
  ¬ x3 = none ∧ w_J9_init g x3 (fun _ h =>
  tO h x3 E) E0 h
def w_X1_led_J49 (g : GT) (v0 : Option Nat) (v1 : Int32) (v2 : Int32) (v3 : Int32) (K : Int32 → AH → Prop) (E : Nat → AH → Prop) (L4 : Int32 → Int32 → AH → Prop) (h : AH) : Prop :=
  nmI (v3 + 1) fun x13 =>
  L4 v2 x13 h
def w_X1_led_L4 (g : GT) (v0 : Option Nat) (v1 : Int32) (K : Int32 → AH → Prop) (E : Nat → AH → Prop) (L4 : Int32 → Int32 → AH → Prop) (v2 : Int32) (v3 : Int32) (h : AH) : Prop :=
  gR h v0 [1] 3 fun x1 =>
  (x1 = none → (w_X1_led_J55 g  K E h)) ∧ (¬ x1 = none → (gR h v0 [1] 3 fun x4 =>
  gI h x4 [9] 8 fun x5 =>
  (x5 ≤ v3 → (w_X1_led_J55 g  K E h)) ∧ (¬ x5 ≤ v3 → (gR h v0 [1] 9 fun x7 =>
  gR h x7 [4] 0 fun x8 =>
  aI h x8 0 v3 fun x9 =>
  (x9 = (-2) → ((¬ v2 = v1 → (nmI (v2 + 1) fun x12 =>
  w_X1_led_J49 g v0 v1 x12 v3 K E L4 h)) ∧ (v2 = v1 → (K v3 h)))) ∧ (¬ x9 = (-2) → (w_X1_led_J49 g v0 v1 v2 v3 K E L4 h))))))
def w_X1_led (g : GT) (v0 : Option Nat) (v1 : Int32) (K : Int32 → AH → Prop) (E : Nat → AH → Prop) (h : AH) : Prop :=
  Lp2 (w_X1_led_L4 g v0 v1 K E) 0 0 h
def w_J0_init_2_J41 (g : GT) (v0 : Option Nat) (v1 : Option Nat) (v2 : Option Nat) (v3 : Int32) (K : Unit → AH → Prop) (E : Nat → AH → Prop) (h : AH) : Prop :=
  pV g h v0 [3, 10] 3 (va_rf v1) fun h =>
  pV g h v0 [3, 10] 0 (va_rf v2) fun h =>
  (¬ v3 = 0 → (K () h)) ∧ (v3 = 0 → (pV g h v0 [3, 10] 2 (va_rf none) fun h =>
  K () h))
def w_J0_init_2 (g : GT) (v0 : Option Nat) (v1 : Option Nat) (v2 : Option Nat) (v3 : Int32) (v4 : Int32) (K : Unit → AH → Prop) (E : Nat → AH → Prop) (h : AH) : Prop :=
  ¬ v0 = none ∧ (pV g h v0 [3, 10] 0 (va_rf v0) fun h =>
  pV g h v0 [3, 10] 1 (va_rf (g.2.2.2.2 0)) fun h =>
  pV g h v0 [3, 10] 2 (va_rf (g.2.2.2.2 1)) fun h =>
  (v4 = 0 → (pV g h v0 [3, 10] 1 (va_rf none) fun h =>
  w_J0_init_2_J41 g v0 v1 v2 v3 K E h)) ∧ (¬ v4 = 0 → (False)))
def w_J1_init (g : GT) (v0 : Option Nat) (v1 : Option Nat) (v2 : Option Nat) (v3 : Int32) (v4 : Int32) (K : Unit → AH → Prop) (E : Nat → AH → Prop) (h : AH) : Prop :=
  ¬ v0 = none ∧ w_J0_init_2 g v0 v1 v2 v3 v4 (fun _ h =>
  K () h) E0 h
def w_J2_init (g : GT) (v0 : Option Nat) (v1 : Option Nat) (v2 : Option Nat) (v3 : Int32) (v4 : Int32) (K : Unit → AH → Prop) (E : Nat → AH → Prop) (h : AH) : Prop :=
  ¬ v0 = none ∧ w_J1_init g v0 v1 v2 v3 v4 (fun _ h =>
  K () h) E0 h
def w_X3_init (g : GT) (v0 : Option Nat) (K : Unit → AH → Prop) (E : Nat → AH → Prop) (h : AH) : Prop :=
  ¬ v0 = none ∧ w_J2_init g v0 none none 0 0 (fun _ h =>
  pV g h v0 [3] 7 (.int (-1)) fun h =>
  K () h) E0 h
def w_X2_init (g : GT) (v0 : Option Nat) (v1 : Option Nat) (K : Unit → AH → Prop) (E : Nat → AH → Prop) (h : AH) : Prop :=
  ¬ v0 = none ∧ (nO g h 3 8 [va_rf none, va_rf none, va_rf none, va_rf none, va_rf none, .int 0, .int 0, .int 0] fun x2 h =>
  ¬ x2 = none ∧ w_X3_init g x2 (fun _ h =>
  pV g h v0 [2] 0 (va_rf x2) fun h =>
  nA g h 2 8 fun x3 h =>
  pV g h v0 [2] 2 (va_rf x3) fun h =>
  pV g h v0 [2] 1 (va_rf v1) fun h =>
  K () h) E0 h)
def w_X4_init (g : GT) (v0 : Option Nat) (K : Unit → AH → Prop) (E : Nat → AH → Prop) (h : AH) : Prop :=
  ¬ v0 = none ∧ (nA g h 0 5 fun x2 h =>
  pV g h v0 [4] 0 (va_rf x2) fun h =>
  nA g h 0 5 fun x3 h =>
  pV g h v0 [4] 1 (va_rf x3) fun h =>
  K () h)
def w_X5_init (g : GT) (v0 : Option Nat) (K : Unit → AH → Prop) (E : Nat → AH → Prop) (h : AH) : Prop :=
  ¬ v0 = none ∧ (nO g h 4 4 [va_rf none, va_rf none, va_rf none, .int 0] fun x2 h =>
  ¬ x2 = none ∧ w_X4_init g x2 (fun _ h =>
  pV g h v0 [5] 0 (va_rf x2) fun h =>
  nA g h 0 205 fun x3 h =>
  pV g h v0 [5] 1 (va_rf x3) fun h =>
  nA g h 0 205 fun x4 h =>
  pV g h v0 [5] 2 (va_rf x4) fun h =>
  K () h) E0 h)
def w_X6_init_L28 (g : GT) (v0 : Option Nat) (K : Unit → AH → Prop) (E : Nat → AH → Prop) (L28 : Int32 → AH → Prop) (v1 : Int32) (h : AH) : Prop :=
  (3 < v1 → (K () h)) ∧ (¬ 3 < v1 → (gR h v0 [6] 0 fun x6 =>
  nO g h 4 4 [va_rf none, va_rf none, va_rf none, .int 0] fun x7 h =>
  ¬ x7 = none ∧ w_X4_init g x7 (fun _ h =>
  sR g h x6 4 [4] v1 x7 fun h =>
  nmI (v1 + 1) fun x8 =>
  L28 x8 h) E0 h))
def w_X6_init (g : GT) (v0 : Option Nat) (K : Unit → AH → Prop) (E : Nat → AH → Prop) (h : AH) : Prop :=
  ¬ v0 = none ∧ (nA g h 4 4 fun x2 h =>
  pV g h v0 [6] 0 (va_rf x2) fun h =>
  nA g h 0 3 fun x3 h =>
  pV g h v0 [6] 1 (va_rf x3) fun h =>
  nA g h 0 3 fun x4 h =>
  pV g h v0 [6] 2 (va_rf x4) fun h =>
  Lp1 (w_X6_init_L28 g v0 K E) 0 h)
def w_X7_init (g : GT) (v0 : Option Nat) (K : Unit → AH → Prop) (E : Nat → AH → Prop) (h : AH) : Prop :=
  ¬ v0 = none ∧ (nA g h 0 6 fun x2 h =>
  pV g h v0 [7] 0 (va_rf x2) fun h =>
  nA g h 0 6 fun x3 h =>
  pV g h v0 [7] 1 (va_rf x3) fun h =>
  nA g h 0 5 fun x4 h =>
  pV g h v0 [7] 2 (va_rf x4) fun h =>
  K () h)
def w_X1_init_L156 (g : GT) (v0 : Option Nat) (K : Unit → AH → Prop) (E : Nat → AH → Prop) (L156 : Int32 → AH → Prop) (v1 : Int32) (h : AH) : Prop :=
  (3 ≤ v1 → (K () h)) ∧ (¬ 3 ≤ v1 → (gR h v0 [1] 17 fun x16 =>
  nO g h 4 4 [va_rf none, va_rf none, va_rf none, .int 0] fun x17 h =>
  ¬ x17 = none ∧ w_X4_init g x17 (fun _ h =>
  sR g h x16 4 [4] v1 x17 fun h =>
  nmI (v1 + 1) fun x18 =>
  L156 x18 h) E0 h))
def w_X1_init_L129 (g : GT) (v0 : Option Nat) (K : Unit → AH → Prop) (E : Nat → AH → Prop) (L129 : Int32 → AH → Prop) (v1 : Int32) (h : AH) : Prop :=
  (16 ≤ v1 → (Lp1 (w_X1_init_L156 g v0 K E) 0 h)) ∧ (¬ 16 ≤ v1 → (gR h v0 [1] 16 fun x19 =>
  nO g h 4 4 [va_rf none, va_rf none, va_rf none, .int 0] fun x20 h =>
  ¬ x20 = none ∧ w_X4_init g x20 (fun _ h =>
  sR g h x19 4 [4] v1 x20 fun h =>
  nmI (v1 + 1) fun x21 =>
  L129 x21 h) E0 h))
def w_X1_init (g : GT) (v0 : Option Nat) (K : Unit → AH → Prop) (E : Nat → AH → Prop) (h : AH) : Prop :=
  ¬ v0 = none ∧ (nA g h 1 1000 fun x2 h =>
  pV g h v0 [1] 0 (va_rf x2) fun h =>
  nO g h 2 10 [va_rf none, va_rf none, va_rf none, .int 0, .int 0, .int 0, .int 0, .int 0, va_rf none, va_rf none] fun x3 h =>
  gR h v0 [1] 0 fun x4 =>
  ¬ x3 = none ∧ w_X2_init g x3 x4 (fun _ h =>
  pV g h v0 [1] 2 (va_rf x3) fun h =>
  pV g h v0 [1] 6 (.int (-1)) fun h =>
  nO g h 4 4 [va_rf none, va_rf none, va_rf none, .int 0] fun x5 h =>
  ¬ x5 = none ∧ w_X4_init g x5 (fun _ h =>
  pV g h v0 [1] 9 (va_rf x5) fun h =>
  nO g h 4 4 [va_rf none, va_rf none, va_rf none, .int 0] fun x6 h =>
  ¬ x6 = none ∧ w_X4_init g x6 (fun _ h =>
  pV g h v0 [1] 10 (va_rf x6) fun h =>
  nO g h 4 4 [va_rf none, va_rf none, va_rf none, .int 0] fun x7 h =>
  ¬ x7 = none ∧ w_X4_init g x7 (fun _ h =>
  pV g h v0 [1] 11 (va_rf x7) fun h =>
  nO g h 5 3 [va_rf none, va_rf none, va_rf none] fun x8 h =>
  ¬ x8 = none ∧ w_X5_init g x8 (fun _ h =>
  pV g h v0 [1] 12 (va_rf x8) fun h =>
  nO g h 5 3 [va_rf none, va_rf none, va_rf none] fun x9 h =>
  ¬ x9 = none ∧ w_X5_init g x9 (fun _ h =>
  pV g h v0 [1] 13 (va_rf x9) fun h =>
  nO g h 6 6 [va_rf none, va_rf none, va_rf none, va_rf none, .int 0, .int 0] fun x10 h =>
  ¬ x10 = none ∧ w_X6_init g x10 (fun _ h =>
  pV g h v0 [1] 14 (va_rf x10) fun h =>
  nO g h 7 7 [va_rf none, va_rf none, va_rf none, va_rf none, va_rf none, .int 0, .int 0] fun x11 h =>
  ¬ x11 = none ∧ w_X7_init g x11 (fun _ h =>
  pV g h v0 [1] 15 (va_rf x11) fun h =>
  nA g h 4 16 fun x12 h =>
  pV g h v0 [1] 16 (va_rf x12) fun h =>
  nA g h 4 3 fun x13 h =>
  pV g h v0 [1] 17 (va_rf x13) fun h =>
  Lp1 (w_X1_init_L129 g v0 K E) 0 h) E0 h) E0 h) E0 h) E0 h) E0 h) E0 h) E0 h) E0 h)
def w_X1_bytes_L3 (g : GT) (v0 : Option Nat) (v1 : Int32) (K : Unit → AH → Prop) (E : Nat → AH → Prop) (L3 : Int32 → AH → Prop) (v2 : Int32) (h : AH) : Prop :=
  (v2 < 0 → (K () h)) ∧ (¬ v2 < 0 → (gR h v0 [1] 0 fun x2 =>
  gI h v0 [1] 1 fun x3 =>
  sI g h x2 1 x3 (vp_nar .byte ((v1 >>> (v2 &&& 31)).toInt8.toInt32)) fun h =>
  gI h v0 [1] 1 fun x4 =>
  pV g h v0 [1] 1 (.int (x4 + 1)) fun h =>
  nmI (v2 + (-8)) fun x5 =>
  L3 x5 h))
def w_X1_bytes (g : GT) (v0 : Option Nat) (v1 : Int32) (K : Unit → AH → Prop) (E : Nat → AH → Prop) (h : AH) : Prop :=
  Lp1 (w_X1_bytes_L3 g v0 v1 K E) 24 h
def w_X1_feed (g : GT) (v0 : Option Nat) (v1 : Int32) (v2 : Int32) (v3 : Int32) (v4 : Int32) (v5 : Int32) (K : Int32 → AH → Prop) (E : Nat → AH → Prop) (h : AH) : Prop :=
  gI h v0 [1] 1 fun x1 =>
  ((x1 + 20) ≤ 1000 → (isO h v0 1 ∧ w_X1_bytes g v0 v1 (fun _ h =>
  isO h v0 1 ∧ w_X1_bytes g v0 v2 (fun _ h =>
  isO h v0 1 ∧ w_X1_bytes g v0 v3 (fun _ h =>
  isO h v0 1 ∧ w_X1_bytes g v0 v4 (fun _ h =>
  isO h v0 1 ∧ w_X1_bytes g v0 v5 (fun _ h =>
  gI h v0 [1] 1 fun x3 =>
  K x3 h) E0 h) E0 h) E0 h) E0 h) E0 h)) ∧ (¬ (x1 + 20) ≤ 1000 → (K (-1) h))
def w_X1_anew (g : GT) (v0 : Option Nat) (K : Unit → AH → Prop) (E : Nat → AH → Prop) (h : AH) : Prop :=
  pV g h v0 [1] 4 (.int 0) fun h =>
  pV g h v0 [1] 6 (.int (-1)) fun h =>
  K () h
def w_X1_in (g : GT) (v0 : Int32) (v1 : Int32) (v2 : Int32) (K : Int32 → AH → Prop) (E : Nat → AH → Prop) (h : AH) : Prop :=
  (v0 < v1 → (nz .boolean 0 (K 0 h))) ∧ (¬ v0 < v1 → ((v2 < v0 → (nz .boolean 0 (K 0 h))) ∧ (¬ v2 < v0 → (nz .boolean 1 (K 1 h)))))
def w_X1_no (g : GT) (v0 : Option Nat) (v1 : Int32) (K : Int32 → AH → Prop) (E : Nat → AH → Prop) (h : AH) : Prop :=
  pV g h v0 [1] 4 (.int v1) fun h =>
  K (-1) h
def w_X9_init (g : GT) (v0 : Option Nat) (K : Unit → AH → Prop) (E : Nat → AH → Prop) (h : AH) : Prop :=
  ¬ v0 = none ∧ (nA g h 5 6 fun x2 h =>
  pV g h v0 [9] 0 (va_rf x2) fun h =>
  nA g h 6 5 fun x3 h =>
  pV g h v0 [9] 1 (va_rf x3) fun h =>
  nA g h 7 16 fun x4 h =>
  pV g h v0 [9] 2 (va_rf x4) fun h =>
  nA g h 8 6 fun x5 h =>
  pV g h v0 [9] 3 (va_rf x5) fun h =>
  K () h)
def w_X2_see (g : GT) (v0 : Option Nat) (v1 : Int32) (K : Int32 → AH → Prop) (E : Nat → AH → Prop) (h : AH) : Prop :=
  gI h v0 [2] 3 fun x1 =>
  (x1 ≤ v1 → (K (-1) h)) ∧ (¬ x1 ≤ v1 → (gR h v0 [2] 1 fun x3 =>
  aI h x3 1 v1 fun x4 =>
  K (x4 &&& 255) h))
def w_X2_isSmall (g : GT) (v0 : Int32) (K : Int32 → AH → Prop) (E : Nat → AH → Prop) (h : AH) : Prop :=
  w_X1_in g v0 97 122 (fun x1 h =>
  nz .boolean x1 (K x1 h)) E0 h
def w_J4_checkFromIndexSize_J15 (g : GT) (v0 : Int32) (v1 : Int32) (v2 : Int32) (v3 : Option Nat) (K : Int32 → AH → Prop) (E : Nat → AH → Prop) (h : AH) : Prop :=
  False
def w_J4_checkFromIndexSize (g : GT) (v0 : Int32) (v1 : Int32) (v2 : Int32) (v3 : Option Nat) (K : Int32 → AH → Prop) (E : Nat → AH → Prop) (h : AH) : Prop :=
  (((v2 ||| v0) ||| v1) < 0 → (w_J4_checkFromIndexSize_J15 g v0 v1 v2 v3 K E h)) ∧ (¬ ((v2 ||| v0) ||| v1) < 0 → ((v1 ≤ (v2 - v0) → (K v0 h)) ∧ (¬ v1 ≤ (v2 - v0) → (w_J4_checkFromIndexSize_J15 g v0 v1 v2 v3 K E h))))
def w_J3_checkBoundsOffCount (g : GT) (v0 : Int32) (v1 : Int32) (v2 : Int32) (K : Int32 → AH → Prop) (E : Nat → AH → Prop) (h : AH) : Prop :=
  w_J4_checkFromIndexSize g v0 v1 v2 (g.2.2.2.2 2) (fun x1 h =>
  K x1 h) E0 h
def w_J3_rangeCheck (g : GT) (v0 : Option Nat) (v1 : Int32) (v2 : Int32) (K : Option Nat → AH → Prop) (E : Nat → AH → Prop) (h : AH) : Prop :=
  aL h v0 fun x1 =>
  w_J3_checkBoundsOffCount g v1 v2 x1 (fun x2 h =>
  K none h) E0 h
def w_J5_compress_2_L3 (g : GT) (v0 : Option Nat) (v2 : Option Nat) (v4 : Int32) (K : Int32 → AH → Prop) (E : Nat → AH → Prop) (L3 : Int32 → Int32 → Int32 → AH → Prop) (v1 : Int32) (v3 : Int32) (v5 : Int32) (h : AH) : Prop :=
  (v4 ≤ v5 → (K v4 h)) ∧ (¬ v4 ≤ v5 → (aI h v0 2 v1 fun x2 =>
  (x2 ≤ 255 → (sI g h v2 1 v3 (vp_nar .byte x2.toInt8.toInt32) fun h =>
  nmI (v1 + 1) fun x4 =>
  nmI (v3 + 1) fun x5 =>
  nmI (v5 + 1) fun x6 =>
  L3 x4 x5 x6 h)) ∧ (¬ x2 ≤ 255 → (K v5 h))))
def w_J5_compress_2 (g : GT) (v0 : Option Nat) (v1 : Int32) (v2 : Option Nat) (v3 : Int32) (v4 : Int32) (K : Int32 → AH → Prop) (E : Nat → AH → Prop) (h : AH) : Prop :=
  Lp3 (w_J5_compress_2_L3 g v0 v2 v4 K E) v1 v3 0 h
def w_J5_newBytesLength (g : GT) (v0 : Int32) (K : Int32 → AH → Prop) (E : Nat → AH → Prop) (h : AH) : Prop :=
  (0 ≤ v0 → ((v0 < 1073741823 → (K (v0 <<< (1 &&& 31)) h)) ∧ (¬ v0 < 1073741823 → (False)))) ∧ (¬ 0 ≤ v0 → (False))
def w_J5_newBytesFor (g : GT) (v0 : Int32) (K : Option Nat → AH → Prop) (E : Nat → AH → Prop) (h : AH) : Prop :=
  w_J5_newBytesLength g v0 (fun x1 h =>
  nA g h 1 x1 fun x2 h =>
  K x2 h) E0 h
def w_J5_length (g : GT) (v0 : Option Nat) (K : Int32 → AH → Prop) (E : Nat → AH → Prop) (h : AH) : Prop :=
  aL h v0 fun x1 =>
  K (x1 >>> (1 &&& 31)) h
def w_J5_putChar_J28 (g : GT) (v0 : Option Nat) (v1 : Int32) (v2 : Int32) (K : Unit → AH → Prop) (E : Nat → AH → Prop) (h : AH) : Prop :=
  nmI (v1 <<< (1 &&& 31)) fun x2 =>
  nmI (x2 + 1) fun x3 =>
  sI g h v0 1 x2 (vp_nar .byte ((v2 >>> (0 &&& 31)).toInt8.toInt32)) fun h =>
  sI g h v0 1 x3 (vp_nar .byte ((v2 >>> (8 &&& 31)).toInt8.toInt32)) fun h =>
  K () h
def w_J5_putChar_J18 (g : GT)  (K : Unit → AH → Prop) (E : Nat → AH → Prop) (h : AH) : Prop :=
  False
def w_J5_putChar (g : GT) (v0 : Option Nat) (v1 : Int32) (v2 : Int32) (K : Unit → AH → Prop) (E : Nat → AH → Prop) (h : AH) : Prop :=
  (¬ (1 : Int32) = 0 → (w_J5_putChar_J28 g v0 v1 v2 K E h)) ∧ ((1 : Int32) = 0 → ((v1 < 0 → (w_J5_putChar_J18 g  K E h)) ∧ (¬ v1 < 0 → (w_J5_length g v0 (fun x5 h =>
  (v1 < x5 → (w_J5_putChar_J28 g v0 v1 v2 K E h)) ∧ (¬ v1 < x5 → (w_J5_putChar_J18 g  K E h))) E0 h))))
def w_J5_toBytes_L8 (g : GT) (v0 : Option Nat) (v2 : Int32) (v3 : Option Nat) (K : Option Nat → AH → Prop) (E : Nat → AH → Prop) (L8 : Int32 → Int32 → AH → Prop) (v1 : Int32) (v4 : Int32) (h : AH) : Prop :=
  (v2 ≤ v4 → (K v3 h)) ∧ (¬ v2 ≤ v4 → (aI h v0 2 v1 fun x3 =>
  w_J5_putChar g v3 v4 x3 (fun _ h =>
  nmI (v1 + 1) fun x4 =>
  nmI (v4 + 1) fun x5 =>
  L8 x4 x5 h) E0 h))
def w_J5_toBytes (g : GT) (v0 : Option Nat) (v1 : Int32) (v2 : Int32) (K : Option Nat → AH → Prop) (E : Nat → AH → Prop) (h : AH) : Prop :=
  w_J5_newBytesFor g v2 (fun x1 h =>
  Lp2 (w_J5_toBytes_L8 g v0 v2 x1 K E) v1 0 h) E0 h
def w_J5_getChar_J28 (g : GT) (v0 : Option Nat) (v1 : Int32) (K : Int32 → AH → Prop) (E : Nat → AH → Prop) (h : AH) : Prop :=
  nmI (v1 <<< (1 &&& 31)) fun x2 =>
  nmI (x2 + 1) fun x3 =>
  aI h v0 1 x2 fun x4 =>
  aI h v0 1 x3 fun x5 =>
  nz .char (((((x4 &&& 255) <<< (0 &&& 31)) ||| ((x5 &&& 255) <<< (8 &&& 31))).toUInt32 % 65536).toInt32) (K (((((x4 &&& 255) <<< (0 &&& 31)) ||| ((x5 &&& 255) <<< (8 &&& 31))).toUInt32 % 65536).toInt32) h)
def w_J5_getChar_J18 (g : GT)  (K : Int32 → AH → Prop) (E : Nat → AH → Prop) (h : AH) : Prop :=
  False
def w_J5_getChar (g : GT) (v0 : Option Nat) (v1 : Int32) (K : Int32 → AH → Prop) (E : Nat → AH → Prop) (h : AH) : Prop :=
  (¬ (1 : Int32) = 0 → (w_J5_getChar_J28 g v0 v1 K E h)) ∧ ((1 : Int32) = 0 → ((v1 < 0 → (w_J5_getChar_J18 g  K E h)) ∧ (¬ v1 < 0 → (w_J5_length g v0 (fun x7 h =>
  (v1 < x7 → (w_J5_getChar_J28 g v0 v1 K E h)) ∧ (¬ v1 < x7 → (w_J5_getChar_J18 g  K E h))) E0 h))))
def w_J5_checkBoundsOffCount (g : GT) (v0 : Int32) (v1 : Int32) (v2 : Option Nat) (K : Unit → AH → Prop) (E : Nat → AH → Prop) (h : AH) : Prop :=
  w_J5_length g v2 (fun x1 h =>
  w_J3_checkBoundsOffCount g v0 v1 x1 (fun x2 h =>
  K () h) E0 h) E0 h
def w_J5_compress_3_L10 (g : GT) (v0 : Option Nat) (v2 : Option Nat) (v4 : Int32) (K : Int32 → AH → Prop) (E : Nat → AH → Prop) (L10 : Int32 → Int32 → Int32 → AH → Prop) (v1 : Int32) (v3 : Int32) (v5 : Int32) (h : AH) : Prop :=
  (v4 ≤ v5 → (K v4 h)) ∧ (¬ v4 ≤ v5 → (w_J5_getChar g v0 v1 (fun x2 h =>
  (x2 ≤ 255 → (sI g h v2 1 v3 (vp_nar .byte x2.toInt8.toInt32) fun h =>
  nmI (v1 + 1) fun x4 =>
  nmI (v3 + 1) fun x5 =>
  nmI (v5 + 1) fun x6 =>
  L10 x4 x5 x6 h)) ∧ (¬ x2 ≤ 255 → (K v5 h))) E0 h))
def w_J5_compress_3 (g : GT) (v0 : Option Nat) (v1 : Int32) (v2 : Option Nat) (v3 : Int32) (v4 : Int32) (K : Int32 → AH → Prop) (E : Nat → AH → Prop) (h : AH) : Prop :=
  w_J5_checkBoundsOffCount g v1 v4 v0 (fun _ h =>
  Lp3 (w_J5_compress_3_L10 g v0 v2 v4 K E) v1 v3 0 h) E0 h
def w_J5_compress (g : GT) (v0 : Option Nat) (v1 : Int32) (v2 : Int32) (K : Option Nat → AH → Prop) (E : Nat → AH → Prop) (h : AH) : Prop :=
  nA g h 1 v2 fun x1 h =>
  w_J5_compress_2 g v0 v1 x1 0 v2 (fun x2 h =>
  (x2 = v2 → (K x1 h)) ∧ (¬ x2 = v2 → (w_J5_toBytes g v0 v1 v2 (fun x4 h =>
  w_J5_getChar g x4 x2 (fun x5 h =>
  (255 < x5 → (K x4 h)) ∧ (¬ 255 < x5 → (w_J5_compress_3 g x4 0 x1 0 v2 (fun x7 h =>
  (x7 = v2 → (K x1 h)) ∧ (¬ x7 = v2 → (K x4 h))) E0 h))) E0 h) E0 h))) E0 h
def w_J5_coderFromArrayLen (g : GT) (v0 : Option Nat) (v1 : Int32) (K : Int32 → AH → Prop) (E : Nat → AH → Prop) (h : AH) : Prop :=
  aL h v0 fun x1 =>
  nz .byte ((((v1 - x1).toUInt32 >>> ((31 : Int32).toUInt32 &&& Int32.toUInt32 31)).toInt32).toInt8.toInt32) (K ((((v1 - x1).toUInt32 >>> ((31 : Int32).toUInt32 &&& Int32.toUInt32 31)).toInt32).toInt8.toInt32) h)
def w_J3_init_2 (g : GT) (v0 : Option Nat) (v1 : Option Nat) (v2 : Int32) (v3 : Int32) (v4 : Option Nat) (K : Unit → AH → Prop) (E : Nat → AH → Prop) (h : AH) : Prop :=
  ¬ v0 = none ∧ ((¬ v3 = 0 → (((1 : Int32) = 0 → (pV g h v0 [0] 1 (.int 1) fun h =>
  w_J5_toBytes g v1 v2 v3 (fun x4 h =>
  pV g h v0 [0] 0 (va_rf x4) fun h =>
  K () h) E0 h)) ∧ (¬ (1 : Int32) = 0 → (w_J5_compress g v1 v2 v3 (fun x5 h =>
  w_J5_coderFromArrayLen g x5 v3 (fun x6 h =>
  nfz .byte x6 (pV g h v0 [0] 1 (.int x6) fun h =>
  pV g h v0 [0] 0 (va_rf x5) fun h =>
  K () h)) E0 h) E0 h)))) ∧ (v3 = 0 → (gR h (some (g.2.2.2.1 0)) [0] 0 fun x8 =>
  pV g h v0 [0] 0 (va_rf x8) fun h =>
  gI h (some (g.2.2.2.1 0)) [0] 1 fun x9 =>
  nfz .byte x9 (pV g h v0 [0] 1 (.int x9) fun h =>
  K () h))))
def w_J3_init (g : GT) (v0 : Option Nat) (v1 : Option Nat) (v2 : Int32) (v3 : Int32) (K : Unit → AH → Prop) (E : Nat → AH → Prop) (h : AH) : Prop :=
  w_J3_rangeCheck g v1 v2 v3 (fun x1 h =>
  ¬ v0 = none ∧ w_J3_init_2 g v0 v1 v2 v3 x1 (fun _ h =>
  K () h) E0 h) E0 h
def w_X2_isDigit (g : GT) (v0 : Int32) (K : Int32 → AH → Prop) (E : Nat → AH → Prop) (h : AH) : Prop :=
  w_X1_in g v0 48 57 (fun x1 h =>
  nz .boolean x1 (K x1 h)) E0 h
def w_X2_next_J296 (g : GT)  (s0 : Int32) (s1 : Option Nat) (K : Unit → AH → Prop) (E : Nat → AH → Prop) (h : AH) : Prop :=
  pV g h s1 [2] 5 (.int s0) fun h =>
  K () h
def w_X2_next_J278 (g : GT)  (s0 : Int32) (s1 : Option Nat) (K : Unit → AH → Prop) (E : Nat → AH → Prop) (h : AH) : Prop :=
  pV g h s1 [2] 5 (.int s0) fun h =>
  K () h
def w_X2_next_J249 (g : GT) (v0 : Option Nat) (v1 : Int32) (K : Unit → AH → Prop) (E : Nat → AH → Prop) (L202 : AH → Prop) (h : AH) : Prop :=
  gI h v0 [2] 4 fun x19 =>
  pV g h v0 [2] 4 (.int (x19 + 1)) fun h =>
  L202 h
def w_X2_next_L202 (g : GT) (v0 : Option Nat) (v1 : Int32) (K : Unit → AH → Prop) (E : Nat → AH → Prop) (L202 : AH → Prop) (h : AH) : Prop :=
  gI h v0 [2] 4 fun x11 =>
  isO h v0 2 ∧ w_X2_see g v0 x11 (fun x12 h =>
  w_X2_isDigit g x12 (fun x13 h =>
  (x13 = 0 → (gI h v0 [2] 4 fun x15 =>
  ((x15 - v1) ≤ 2 → (w_X2_next_J278 g  3 v0 K E h)) ∧ (¬ (x15 - v1) ≤ 2 → (w_X2_next_J278 g  1 v0 K E h)))) ∧ (¬ x13 = 0 → (gI h v0 [2] 4 fun x17 =>
  (2 ≤ (x17 - v1) → (w_X2_next_J249 g v0 v1 K E L202 h)) ∧ (¬ 2 ≤ (x17 - v1) → (gI h v0 [2] 7 fun x20 =>
  gI h v0 [2] 4 fun x21 =>
  isO h v0 2 ∧ w_X2_see g v0 x21 (fun x22 h =>
  pV g h v0 [2] 7 (.int (((10 * x20) + x22) - 48)) fun h =>
  w_X2_next_J249 g v0 v1 K E L202 h) E0 h))))) E0 h) E0 h
def w_X2_next_J179 (g : GT)  (s0 : Option Nat) (s1 : Option Nat) (K : Unit → AH → Prop) (E : Nat → AH → Prop) (h : AH) : Prop :=
  pV g h s1 [2] 8 (va_rf s0) fun h =>
  K () h
def w_X2_next_J144 (g : GT) (v0 : Option Nat) (v1 : Int32) (s0 : Int32) (s1 : Option Nat) (K : Unit → AH → Prop) (E : Nat → AH → Prop) (h : AH) : Prop :=
  pV g h s1 [2] 5 (.int s0) fun h =>
  gI h v0 [2] 5 fun x29 =>
  (¬ x29 = 2 → (w_X2_next_J179 g  (some (g.2.2.2.1 0)) v0 K E h)) ∧ (x29 = 2 → (nO g h 0 4 [va_rf none, .int 0, .int 0, .int 0] fun x31 h =>
  gR h v0 [2] 2 fun x32 =>
  gI h v0 [2] 4 fun x33 =>
  ¬ x31 = none ∧ w_J3_init g x31 x32 0 (x33 - v1) (fun _ h =>
  w_X2_next_J179 g  x31 v0 K E h) E0 h))
def w_X2_next_J114 (g : GT) (v0 : Option Nat) (v1 : Int32) (K : Unit → AH → Prop) (E : Nat → AH → Prop) (L69 : AH → Prop) (h : AH) : Prop :=
  gI h v0 [2] 4 fun x36 =>
  pV g h v0 [2] 4 (.int (x36 + 1)) fun h =>
  L69 h
def w_X2_next_L69 (g : GT) (v0 : Option Nat) (v1 : Int32) (K : Unit → AH → Prop) (E : Nat → AH → Prop) (L69 : AH → Prop) (h : AH) : Prop :=
  gI h v0 [2] 4 fun x23 =>
  isO h v0 2 ∧ w_X2_see g v0 x23 (fun x24 h =>
  w_X2_isSmall g x24 (fun x25 h =>
  (x25 = 0 → (gI h v0 [2] 4 fun x27 =>
  ((x27 - v1) ≤ 8 → (w_X2_next_J144 g v0 v1 2 v0 K E h)) ∧ (¬ (x27 - v1) ≤ 8 → (w_X2_next_J144 g v0 v1 1 v0 K E h)))) ∧ (¬ x25 = 0 → (gI h v0 [2] 4 fun x34 =>
  (8 ≤ (x34 - v1) → (w_X2_next_J114 g v0 v1 K E L69 h)) ∧ (¬ 8 ≤ (x34 - v1) → (gR h v0 [2] 2 fun x37 =>
  gI h v0 [2] 4 fun x38 =>
  gI h v0 [2] 4 fun x39 =>
  isO h v0 2 ∧ w_X2_see g v0 x39 (fun x40 h =>
  sI g h x37 2 (x38 - v1) (vp_nar .char ((x40.toUInt32 % 65536).toInt32)) fun h =>
  w_X2_next_J114 g v0 v1 K E L69 h) E0 h))))) E0 h) E0 h
def w_X2_next_L5 (g : GT) (v0 : Option Nat) (K : Unit → AH → Prop) (E : Nat → AH → Prop) (L5 : Int32 → AH → Prop) (v1 : Int32) (h : AH) : Prop :=
  isO h v0 2 ∧ w_X2_see g v0 v1 (fun x2 h =>
  (¬ x2 = 32 → (pV g h v0 [2] 6 (.int v1) fun h =>
  pV g h v0 [2] 4 (.int (v1 + 1)) fun h =>
  isO h v0 2 ∧ w_X2_see g v0 v1 (fun x4 h =>
  (¬ x4 = (-1) → (w_X2_isSmall g x4 (fun x6 h =>
  (x6 = 0 → (w_X2_isDigit g x4 (fun x8 h =>
  (x8 = 0 → ((¬ x4 = 59 → (w_X2_next_J296 g  1 v0 K E h)) ∧ (x4 = 59 → (w_X2_next_J296 g  x4 v0 K E h)))) ∧ (¬ x8 = 0 → (pV g h v0 [2] 7 (.int 0) fun h =>
  pV g h v0 [2] 4 (.int v1) fun h =>
  Lp0 (w_X2_next_L202 g v0 v1 K E) h))) E0 h)) ∧ (¬ x6 = 0 → (pV g h v0 [2] 4 (.int v1) fun h =>
  Lp0 (w_X2_next_L69 g v0 v1 K E) h))) E0 h)) ∧ (x4 = (-1) → (pV g h v0 [2] 5 (.int 0) fun h =>
  pV g h v0 [2] 4 (.int v1) fun h =>
  K () h))) E0 h)) ∧ (x2 = 32 → (nmI (v1 + 1) fun x41 =>
  L5 x41 h))) E0 h
def w_X2_next (g : GT) (v0 : Option Nat) (K : Unit → AH → Prop) (E : Nat → AH → Prop) (h : AH) : Prop :=
  gI h v0 [2] 4 fun x1 =>
  Lp1 (w_X2_next_L5 g v0 K E) x1 h
def w_X3_at (g : GT) (v0 : Option Nat) (v1 : Int32) (v2 : Int32) (K : Option Nat → AH → Prop) (E : Nat → AH → Prop) (h : AH) : Prop :=
  pV g h v0 [3] 6 (.int v1) fun h =>
  pV g h v0 [3] 7 (.int v2) fun h =>
  K v0 h
def w_X2_fail (g : GT) (v0 : Option Nat) (v1 : Int32) (K : Option Nat → AH → Prop) (E : Nat → AH → Prop) (h : AH) : Prop :=
  gR h v0 [2] 0 fun x1 =>
  gI h v0 [2] 6 fun x2 =>
  isO h x1 3 ∧ w_X3_at g x1 v1 x2 (fun x3 h =>
  K x3 h) E0 h
def w_J3_isLatin1 (g : GT) (v0 : Option Nat) (K : Int32 → AH → Prop) (E : Nat → AH → Prop) (h : AH) : Prop :=
  ((1 : Int32) = 0 → (nz .boolean 0 (K 0 h))) ∧ (¬ (1 : Int32) = 0 → (gI h v0 [0] 1 fun x2 =>
  (¬ x2 = 0 → (nz .boolean 0 (K 0 h))) ∧ (x2 = 0 → (nz .boolean 1 (K 1 h)))))
def w_J7_signedHashCode_L8 (g : GT) (v1 : Option Nat) (v4 : Int32) (K : Int32 → AH → Prop) (E : Nat → AH → Prop) (L8 : Int32 → Int32 → AH → Prop) (v0 : Int32) (v5 : Int32) (h : AH) : Prop :=
  (v4 ≤ v5 → (K v0 h)) ∧ (¬ v4 ≤ v5 → (aI h v1 1 v5 fun x3 =>
  nmI ((31 * v0) + (x3 &&& 255)) fun x4 =>
  nmI (v5 + 1) fun x5 =>
  L8 x4 x5 h))
def w_J7_signedHashCode (g : GT) (v0 : Int32) (v1 : Option Nat) (v2 : Int32) (v3 : Int32) (K : Int32 → AH → Prop) (E : Nat → AH → Prop) (h : AH) : Prop :=
  nmI (v2 + v3) fun x1 =>
  Lp2 (w_J7_signedHashCode_L8 g v1 x1 K E) v0 v2 h
def w_J7_utf16hashCode_L8 (g : GT) (v1 : Option Nat) (v4 : Int32) (K : Int32 → AH → Prop) (E : Nat → AH → Prop) (L8 : Int32 → Int32 → AH → Prop) (v0 : Int32) (v5 : Int32) (h : AH) : Prop :=
  (v4 ≤ v5 → (K v0 h)) ∧ (¬ v4 ≤ v5 → (False))
def w_J7_utf16hashCode (g : GT) (v0 : Int32) (v1 : Option Nat) (v2 : Int32) (v3 : Int32) (K : Int32 → AH → Prop) (E : Nat → AH → Prop) (h : AH) : Prop :=
  nmI (v2 + v3) fun x1 =>
  Lp2 (w_J7_utf16hashCode_L8 g v1 x1 K E) v0 v2 h
def w_J7_hashCode_L8 (g : GT) (v1 : Option Nat) (v4 : Int32) (K : Int32 → AH → Prop) (E : Nat → AH → Prop) (L8 : Int32 → Int32 → AH → Prop) (v0 : Int32) (v5 : Int32) (h : AH) : Prop :=
  (v4 ≤ v5 → (K v0 h)) ∧ (¬ v4 ≤ v5 → (aI h v1 2 v5 fun x3 =>
  nmI ((31 * v0) + x3) fun x4 =>
  nmI (v5 + 1) fun x5 =>
  L8 x4 x5 h))
def w_J7_hashCode (g : GT) (v0 : Int32) (v1 : Option Nat) (v2 : Int32) (v3 : Int32) (K : Int32 → AH → Prop) (E : Nat → AH → Prop) (h : AH) : Prop :=
  nmI (v2 + v3) fun x1 =>
  Lp2 (w_J7_hashCode_L8 g v1 x1 K E) v0 v2 h
def w_J7_hashCode_2_L8 (g : GT) (v1 : Option Nat) (v4 : Int32) (K : Int32 → AH → Prop) (E : Nat → AH → Prop) (L8 : Int32 → Int32 → AH → Prop) (v0 : Int32) (v5 : Int32) (h : AH) : Prop :=
  (v4 ≤ v5 → (K v0 h)) ∧ (¬ v4 ≤ v5 → (aI h v1 1 v5 fun x3 =>
  nmI ((31 * v0) + x3) fun x4 =>
  nmI (v5 + 1) fun x5 =>
  L8 x4 x5 h))
def w_J7_hashCode_2 (g : GT) (v0 : Int32) (v1 : Option Nat) (v2 : Int32) (v3 : Int32) (K : Int32 → AH → Prop) (E : Nat → AH → Prop) (h : AH) : Prop :=
  nmI (v2 + v3) fun x1 =>
  Lp2 (w_J7_hashCode_2_L8 g v1 x1 K E) v0 v2 h
def w_J7_hashCode_3_L8 (g : GT) (v1 : Option Nat) (v4 : Int32) (K : Int32 → AH → Prop) (E : Nat → AH → Prop) (L8 : Int32 → Int32 → AH → Prop) (v0 : Int32) (v5 : Int32) (h : AH) : Prop :=
  (v4 ≤ v5 → (K v0 h)) ∧ (¬ v4 ≤ v5 → (False))
def w_J7_hashCode_3 (g : GT) (v0 : Int32) (v1 : Option Nat) (v2 : Int32) (v3 : Int32) (K : Int32 → AH → Prop) (E : Nat → AH → Prop) (h : AH) : Prop :=
  nmI (v2 + v3) fun x1 =>
  Lp2 (w_J7_hashCode_3_L8 g v1 x1 K E) v0 v2 h
def w_J7_hashCode_4_L8 (g : GT) (v1 : Option Nat) (v4 : Int32) (K : Int32 → AH → Prop) (E : Nat → AH → Prop) (L8 : Int32 → Int32 → AH → Prop) (v0 : Int32) (v5 : Int32) (h : AH) : Prop :=
  (v4 ≤ v5 → (K v0 h)) ∧ (¬ v4 ≤ v5 → (aI h v1 0 v5 fun x3 =>
  nmI ((31 * v0) + x3) fun x4 =>
  nmI (v5 + 1) fun x5 =>
  L8 x4 x5 h))
def w_J7_hashCode_4 (g : GT) (v0 : Int32) (v1 : Option Nat) (v2 : Int32) (v3 : Int32) (K : Int32 → AH → Prop) (E : Nat → AH → Prop) (h : AH) : Prop :=
  nmI (v2 + v3) fun x1 =>
  Lp2 (w_J7_hashCode_4_L8 g v1 x1 K E) v0 v2 h
def w_J7_vectorizedHashCode_J129 (g : GT) (v4 : Int32) (K : Int32 → AH → Prop) (E : Nat → AH → Prop) (h : AH) : Prop :=
  False
def w_J7_vectorizedHashCode (g : GT) (v0 : Option Nat) (v1 : Int32) (v2 : Int32) (v3 : Int32) (v4 : Int32) (K : Int32 → AH → Prop) (E : Nat → AH → Prop) (h : AH) : Prop :=
  swT v4 [(4, kB h v0 (w_J7_signedHashCode g v3 v0 v1 v2 (fun x2 h =>
  K x2 h) E0 h)),
  (5, False),
  (6, w_J7_vectorizedHashCode_J129 g v4 K E h),
  (7, w_J7_vectorizedHashCode_J129 g v4 K E h),
  (8, kB h v0 (w_J7_hashCode_2 g v3 v0 v1 v2 (fun x3 h =>
  K x3 h) E0 h)),
  (9, False),
  (10, False)] (w_J7_vectorizedHashCode_J129 g v4 K E h)
def w_J6_hashCode (g : GT) (v0 : Option Nat) (K : Int32 → AH → Prop) (E : Nat → AH → Prop) (h : AH) : Prop :=
  aL h v0 fun x1 =>
  swT x1 [(0, K 0 h),
  (1, aI h v0 1 0 fun x3 =>
  K (x3 &&& 255) h)] (aL h v0 fun x4 =>
  w_J7_vectorizedHashCode g v0 0 x4 0 4 (fun x5 h =>
  K x5 h) E0 h)
def w_J5_hashCode (g : GT) (v0 : Option Nat) (K : Int32 → AH → Prop) (E : Nat → AH → Prop) (h : AH) : Prop :=
  aL h v0 fun x1 =>
  swT x1 [(0, K 0 h),
  (2, w_J5_getChar g v0 0 (fun x3 h =>
  K x3 h) E0 h)] (aL h v0 fun x4 =>
  w_J7_vectorizedHashCode g v0 0 (x4 >>> (1 &&& 31)) 0 5 (fun x5 h =>
  K x5 h) E0 h)
def w_J3_hashCode_J40 (g : GT) (v0 : Option Nat) (s0 : Int32) (K : Int32 → AH → Prop) (E : Nat → AH → Prop) (h : AH) : Prop :=
  (¬ s0 = 0 → (pV g h v0 [0] 2 (.int s0) fun h =>
  K s0 h)) ∧ (s0 = 0 → (pV g h v0 [0] 3 (.int 1) fun h =>
  K s0 h))
def w_J3_hashCode (g : GT) (v0 : Option Nat) (K : Int32 → AH → Prop) (E : Nat → AH → Prop) (h : AH) : Prop :=
  gI h v0 [0] 2 fun x1 =>
  (¬ x1 = 0 → (K x1 h)) ∧ (x1 = 0 → (gI h v0 [0] 3 fun x3 =>
  (¬ x3 = 0 → (K x1 h)) ∧ (x3 = 0 → (isO h v0 0 ∧ w_J3_isLatin1 g v0 (fun x5 h =>
  (x5 = 0 → (gR h v0 [0] 0 fun x7 =>
  w_J5_hashCode g x7 (fun x8 h =>
  w_J3_hashCode_J40 g v0 x8 K E h) E0 h)) ∧ (¬ x5 = 0 → (gR h v0 [0] 0 fun x10 =>
  w_J6_hashCode g x10 (fun x11 h =>
  w_J3_hashCode_J40 g v0 x11 K E h) E0 h))) E0 h))))
def w_J6_equals_L9 (g : GT) (v0 : Option Nat) (v1 : Option Nat) (K : Int32 → AH → Prop) (E : Nat → AH → Prop) (L9 : Int32 → AH → Prop) (v2 : Int32) (h : AH) : Prop :=
  aL h v0 fun x4 =>
  (x4 ≤ v2 → (nz .boolean 1 (K 1 h))) ∧ (¬ x4 ≤ v2 → (aI h v0 1 v2 fun x6 =>
  aI h v1 1 v2 fun x7 =>
  (x6 = x7 → (nmI (v2 + 1) fun x9 =>
  L9 x9 h)) ∧ (¬ x6 = x7 → (nz .boolean 0 (K 0 h)))))
def w_J6_equals (g : GT) (v0 : Option Nat) (v1 : Option Nat) (K : Int32 → AH → Prop) (E : Nat → AH → Prop) (h : AH) : Prop :=
  aL h v0 fun x1 =>
  aL h v1 fun x2 =>
  (¬ x1 = x2 → (nz .boolean 0 (K 0 h))) ∧ (x1 = x2 → (Lp1 (w_J6_equals_L9 g v0 v1 K E) 0 h))
def w_J3_equals_J36 (g : GT) (v0 : Option Nat) (v2 : Option Nat) (K : Int32 → AH → Prop) (E : Nat → AH → Prop) (h : AH) : Prop :=
  gR h v0 [0] 0 fun x5 =>
  gR h v2 [0] 0 fun x6 =>
  w_J6_equals g x5 x6 (fun x7 h =>
  (x7 = 0 → (nz .boolean 0 (K 0 h))) ∧ (¬ x7 = 0 → (nz .boolean 1 (K 1 h)))) E0 h
def w_J3_equals (g : GT) (v0 : Option Nat) (v1 : Option Nat) (K : Int32 → AH → Prop) (E : Nat → AH → Prop) (h : AH) : Prop :=
  (¬ v0 = v1 → (iO h v1 [0] [] fun x2 =>
  (x2 = 0 → (nz .boolean 0 (K 0 h))) ∧ (¬ x2 = 0 → (kO h v1 [0] (((1 : Int32) = 0 → (w_J3_equals_J36 g v0 v1 K E h)) ∧ (¬ (1 : Int32) = 0 → (gI h v0 [0] 1 fun x9 =>
  gI h v1 [0] 1 fun x10 =>
  (¬ x9 = x10 → (nz .boolean 0 (K 0 h))) ∧ (x9 = x10 → (w_J3_equals_J36 g v0 v1 K E h))))))))) ∧ (v0 = v1 → (nz .boolean 1 (K 1 h)))
def w_X2_takes (g : GT) (v0 : Option Nat) (v1 : Option Nat) (K : Int32 → AH → Prop) (E : Nat → AH → Prop) (h : AH) : Prop :=
  gI h v0 [2] 5 fun x1 =>
  (¬ x1 = 2 → (nz .boolean 0 (K 0 h))) ∧ (x1 = 2 → (gR h v0 [2] 8 fun x3 =>
  isO h x3 0 ∧ w_J3_equals g x3 v1 (fun x4 h =>
  (¬ x4 = 0 → (isO h v0 2 ∧ w_X2_next g v0 (fun _ h =>
  nz .boolean 1 (K 1 h)) E0 h)) ∧ (x4 = 0 → (nz .boolean 0 (K 0 h)))) E0 h))
def w_X2_must (g : GT) (v0 : Option Nat) (v1 : Option Nat) (K : Unit → AH → Prop) (E : Nat → AH → Prop) (h : AH) : Prop :=
  isO h v0 2 ∧ w_X2_takes g v0 v1 (fun x1 h =>
  (¬ x1 = 0 → (K () h)) ∧ (x1 = 0 → (isO h v0 2 ∧ w_X2_fail g v0 1 (fun x3 h =>
  tO h x3 E) E0 h))) E0 h
def w_X2_number (g : GT) (v0 : Option Nat) (v1 : Int32) (v2 : Int32) (K : Int32 → AH → Prop) (E : Nat → AH → Prop) (h : AH) : Prop :=
  gI h v0 [2] 5 fun x1 =>
  (x1 = 3 → (gI h v0 [2] 7 fun x3 =>
  w_X1_in g x3 v1 v2 (fun x4 h =>
  (¬ x4 = 0 → (gI h v0 [2] 7 fun x6 =>
  isO h v0 2 ∧ w_X2_next g v0 (fun _ h =>
  K x6 h) E0 h)) ∧ (x4 = 0 → (isO h v0 2 ∧ w_X2_fail g v0 4 (fun x7 h =>
  tO h x7 E) E0 h))) E0 h)) ∧ (¬ x1 = 3 → (isO h v0 2 ∧ w_X2_fail g v0 1 (fun x8 h =>
  tO h x8 E) E0 h))
def w_X2_after (g : GT) (v0 : Option Nat) (v1 : Option Nat) (v2 : Int32) (v3 : Int32) (K : Int32 → AH → Prop) (E : Nat → AH → Prop) (h : AH) : Prop :=
  isO h v0 2 ∧ w_X2_must g v0 v1 (fun _ h =>
  isO h v0 2 ∧ w_X2_number g v0 v2 v3 (fun x1 h =>
  K x1 h) E h) E h
def w_X2_countyLine (g : GT) (v0 : Option Nat) (K : Unit → AH → Prop) (E : Nat → AH → Prop) (h : AH) : Prop :=
  gR h v0 [2] 9 fun x1 =>
  gI h x1 [9] 4 fun x2 =>
  (x2 ≤ 0 → (isO h v0 2 ∧ w_X2_next g v0 (fun _ h =>
  isO h v0 2 ∧ w_X2_after g v0 (some (g.2.2.2.1 9)) 1 30 (fun x4 h =>
  gR h v0 [2] 9 fun x5 =>
  isO h v0 2 ∧ w_X2_after g v0 (some (g.2.2.2.1 10)) 0 99 (fun x6 h =>
  pV g h x5 [9] 5 (.int x6) fun h =>
  gR h v0 [2] 9 fun x7 =>
  isO h v0 2 ∧ w_X2_after g v0 (some (g.2.2.2.1 11)) 0 99 (fun x8 h =>
  pV g h x7 [9] 6 (.int x8) fun h =>
  gR h v0 [2] 9 fun x9 =>
  pV g h x9 [9] 4 (.int x4) fun h =>
  K () h) E h) E h) E h) E0 h)) ∧ (¬ x2 ≤ 0 → (isO h v0 2 ∧ w_X2_fail g v0 3 (fun x10 h =>
  tO h x10 E) E0 h))
def w_X2_begins (g : GT) (v0 : Option Nat) (v1 : Int32) (K : Unit → AH → Prop) (E : Nat → AH → Prop) (h : AH) : Prop :=
  (¬ v1 = 0 → (gR h v0 [2] 9 fun x2 =>
  gI h x2 [9] 4 fun x3 =>
  (¬ x3 = 0 → (isO h v0 2 ∧ w_X2_next g v0 (fun _ h =>
  K () h) E0 h)) ∧ (x3 = 0 → (isO h v0 2 ∧ w_X2_fail g v0 6 (fun x5 h =>
  tO h x5 E) E0 h)))) ∧ (v1 = 0 → (isO h v0 2 ∧ w_X2_fail g v0 5 (fun x6 h =>
  tO h x6 E) E0 h))
def w_X2_mustName_J260 (g : GT) (v0 : Option Nat) (K : Unit → AH → Prop) (E : Nat → AH → Prop) (h : AH) : Prop :=
  isO h v0 2 ∧ w_X2_fail g v0 1 (fun x9 h =>
  tO h x9 E) E0 h
def w_X2_mustName_J211 (g : GT) (v0 : Option Nat) (v2 : Int32) (K : Unit → AH → Prop) (E : Nat → AH → Prop) (h : AH) : Prop :=
  swT v2 [(0, w_X2_mustName_J260 g v0 K E h),
  (1, w_X2_mustName_J260 g v0 K E h),
  (2, w_X2_mustName_J260 g v0 K E h),
  (3, w_X2_mustName_J260 g v0 K E h),
  (4, w_X2_mustName_J260 g v0 K E h),
  (5, w_X2_mustName_J260 g v0 K E h),
  (6, w_X2_mustName_J260 g v0 K E h),
  (7, w_X2_mustName_J260 g v0 K E h)] (K () h)
def w_X2_mustName (g : GT) (v0 : Option Nat) (K : Unit → AH → Prop) (E : Nat → AH → Prop) (h : AH) : Prop :=
  gI h v0 [2] 5 fun x1 =>
  (x1 = 2 → (gR h v0 [2] 8 fun x3 =>
  isO h x3 0 ∧ w_J3_hashCode g x3 (fun x4 h =>
  swT x4 [((-1381913276), isO h x3 0 ∧ w_J3_equals g x3 (some (g.2.2.2.1 3)) (fun x6 h =>
  (x6 = 0 → (w_X2_mustName_J211 g v0 (-1) K E h)) ∧ (¬ x6 = 0 → (w_X2_mustName_J211 g v0 2 K E h))) E0 h),
  ((-1357946953), isO h x3 0 ∧ w_J3_equals g x3 (some (g.2.2.2.1 8)) (fun x10 h =>
  (x10 = 0 → (w_X2_mustName_J211 g v0 (-1) K E h)) ∧ (¬ x10 = 0 → (w_X2_mustName_J211 g v0 7 K E h))) E0 h),
  ((-1354575542), isO h x3 0 ∧ w_J3_equals g x3 (some (g.2.2.2.1 1)) (fun x12 h =>
  (x12 = 0 → (w_X2_mustName_J211 g v0 (-1) K E h)) ∧ (¬ x12 = 0 → (w_X2_mustName_J211 g v0 0 K E h))) E0 h),
  ((-991716523), isO h x3 0 ∧ w_J3_equals g x3 (some (g.2.2.2.1 2)) (fun x14 h =>
  (x14 = 0 → (w_X2_mustName_J211 g v0 (-1) K E h)) ∧ (¬ x14 = 0 → (w_X2_mustName_J211 g v0 1 K E h))) E0 h),
  (3317767, isO h x3 0 ∧ w_J3_equals g x3 (some (g.2.2.2.1 5)) (fun x16 h =>
  (x16 = 0 → (w_X2_mustName_J211 g v0 (-1) K E h)) ∧ (¬ x16 = 0 → (w_X2_mustName_J211 g v0 4 K E h))) E0 h),
  (3318015, isO h x3 0 ∧ w_J3_equals g x3 (some (g.2.2.2.1 4)) (fun x18 h =>
  (x18 = 0 → (w_X2_mustName_J211 g v0 (-1) K E h)) ∧ (¬ x18 = 0 → (w_X2_mustName_J211 g v0 3 K E h))) E0 h),
  (3492756, isO h x3 0 ∧ w_J3_equals g x3 (some (g.2.2.2.1 7)) (fun x20 h =>
  (x20 = 0 → (w_X2_mustName_J211 g v0 (-1) K E h)) ∧ (¬ x20 = 0 → (w_X2_mustName_J211 g v0 6 K E h))) E0 h),
  (738943668, isO h x3 0 ∧ w_J3_equals g x3 (some (g.2.2.2.1 6)) (fun x22 h =>
  (x22 = 0 → (w_X2_mustName_J211 g v0 (-1) K E h)) ∧ (¬ x22 = 0 → (w_X2_mustName_J211 g v0 5 K E h))) E0 h)] (w_X2_mustName_J211 g v0 (-1) K E h)) E0 h)) ∧ (¬ x1 = 2 → (isO h v0 2 ∧ w_X2_fail g v0 1 (fun x24 h =>
  tO h x24 E) E0 h))
def w_X9_find_L41 (g : GT) (v0 : Option Nat) (v1 : Option Nat) (K : Option Nat → AH → Prop) (E : Nat → AH → Prop) (L41 : Int32 → AH → Prop) (v2 : Int32) (h : AH) : Prop :=
  gI h v0 [9] 8 fun x3 =>
  (x3 ≤ v2 → (K none h)) ∧ (¬ x3 ≤ v2 → (gR h v0 [9] 1 fun x5 =>
  aR h x5 6 v2 fun x6 =>
  gR h x6 [16, 17, 18, 19] 0 fun x7 =>
  isO h x7 0 ∧ w_J3_equals g x7 v1 (fun x8 h =>
  (x8 = 0 → (nmI (v2 + 1) fun x10 =>
  L41 x10 h)) ∧ (¬ x8 = 0 → (gR h v0 [9] 1 fun x11 =>
  aR h x11 6 v2 fun x12 =>
  K x12 h))) E0 h))
def w_X9_find_L2 (g : GT) (v0 : Option Nat) (v1 : Option Nat) (K : Option Nat → AH → Prop) (E : Nat → AH → Prop) (L2 : Int32 → AH → Prop) (v2 : Int32) (h : AH) : Prop :=
  gI h v0 [9] 7 fun x1 =>
  (x1 ≤ v2 → (Lp1 (w_X9_find_L41 g v0 v1 K E) 0 h)) ∧ (¬ x1 ≤ v2 → (gR h v0 [9] 0 fun x13 =>
  aR h x13 5 v2 fun x14 =>
  gR h x14 [12, 13, 14] 0 fun x15 =>
  isO h x15 0 ∧ w_J3_equals g x15 v1 (fun x16 h =>
  (x16 = 0 → (nmI (v2 + 1) fun x18 =>
  L2 x18 h)) ∧ (¬ x16 = 0 → (gR h v0 [9] 0 fun x19 =>
  aR h x19 5 v2 fun x20 =>
  K x20 h))) E0 h))
def w_X9_find (g : GT) (v0 : Option Nat) (v1 : Option Nat) (K : Option Nat → AH → Prop) (E : Nat → AH → Prop) (h : AH) : Prop :=
  Lp1 (w_X9_find_L2 g v0 v1 K E) 0 h
def w_X2_newName (g : GT) (v0 : Option Nat) (K : Option Nat → AH → Prop) (E : Nat → AH → Prop) (h : AH) : Prop :=
  isO h v0 2 ∧ w_X2_mustName g v0 (fun _ h =>
  gR h v0 [2] 9 fun x1 =>
  gR h v0 [2] 8 fun x2 =>
  isO h x1 9 ∧ w_X9_find g x1 x2 (fun x3 h =>
  (x3 = none → (gR h v0 [2] 8 fun x5 =>
  isO h v0 2 ∧ w_X2_next g v0 (fun _ h =>
  K x5 h) E0 h)) ∧ (¬ x3 = none → (isO h v0 2 ∧ w_X2_fail g v0 3 (fun x6 h =>
  tO h x6 E) E0 h))) E0 h) E h
def w_X10_init (g : GT) (v0 : Option Nat) (v1 : Option Nat) (v2 : Int32) (K : Unit → AH → Prop) (E : Nat → AH → Prop) (h : AH) : Prop :=
  ¬ v0 = none ∧ (pV g h v0 [12, 13, 14, 16, 17, 18, 19] 0 (va_rf v1) fun h =>
  pV g h v0 [12, 13, 14, 16, 17, 18, 19] 1 (.int v2) fun h =>
  K () h)
def w_X11_init (g : GT) (v0 : Option Nat) (v1 : Option Nat) (v2 : Int32) (K : Unit → AH → Prop) (E : Nat → AH → Prop) (h : AH) : Prop :=
  ¬ v0 = none ∧ w_X10_init g v0 v1 v2 (fun _ h =>
  K () h) E0 h
def w_X12_init (g : GT) (v0 : Option Nat) (v1 : Option Nat) (v2 : Int32) (K : Unit → AH → Prop) (E : Nat → AH → Prop) (h : AH) : Prop :=
  ¬ v0 = none ∧ w_X11_init g v0 v1 v2 (fun _ h =>
  K () h) E0 h
def w_X13_init (g : GT) (v0 : Option Nat) (v1 : Option Nat) (v2 : Int32) (K : Unit → AH → Prop) (E : Nat → AH → Prop) (h : AH) : Prop :=
  ¬ v0 = none ∧ w_X11_init g v0 v1 v2 (fun _ h =>
  K () h) E0 h
def w_X14_init (g : GT) (v0 : Option Nat) (v1 : Option Nat) (v2 : Int32) (K : Unit → AH → Prop) (E : Nat → AH → Prop) (h : AH) : Prop :=
  ¬ v0 = none ∧ w_X11_init g v0 v1 v2 (fun _ h =>
  K () h) E0 h
def w_X2_personOf (g : GT) (v0 : Option Nat) (v1 : Option Nat) (v2 : Int32) (K : Option Nat → AH → Prop) (E : Nat → AH → Prop) (h : AH) : Prop :=
  isO h v0 2 ∧ w_X2_takes g v0 (some (g.2.2.2.1 12)) (fun x1 h =>
  (x1 = 0 → (isO h v0 2 ∧ w_X2_takes g v0 (some (g.2.2.2.1 13)) (fun x3 h =>
  (x3 = 0 → (isO h v0 2 ∧ w_X2_must g v0 (some (g.2.2.2.1 14)) (fun _ h =>
  nO g h 14 2 [va_rf none, .int 0] fun x5 h =>
  ¬ x5 = none ∧ w_X14_init g x5 v1 v2 (fun _ h =>
  K x5 h) E0 h) E h)) ∧ (¬ x3 = 0 → (nO g h 13 2 [va_rf none, .int 0] fun x6 h =>
  ¬ x6 = none ∧ w_X13_init g x6 v1 v2 (fun _ h =>
  K x6 h) E0 h))) E0 h)) ∧ (¬ x1 = 0 → (nO g h 12 2 [va_rf none, .int 0] fun x7 h =>
  ¬ x7 = none ∧ w_X12_init g x7 v1 v2 (fun _ h =>
  K x7 h) E0 h))) E0 h
def w_X2_personLine_J18 (g : GT) (v0 : Option Nat) (s0 : Int32) (s1 : Option Nat) (K : Unit → AH → Prop) (E : Nat → AH → Prop) (h : AH) : Prop :=
  isO h s1 2 ∧ w_X2_begins g s1 s0 (fun _ h =>
  gR h v0 [2] 9 fun x4 =>
  gR h x4 [9] 0 fun x5 =>
  gR h v0 [2] 9 fun x6 =>
  gI h x6 [9] 7 fun x7 =>
  isO h v0 2 ∧ w_X2_newName g v0 (fun x8 h =>
  gR h v0 [2] 9 fun x9 =>
  gI h x9 [9] 7 fun x10 =>
  isO h v0 2 ∧ w_X2_personOf g v0 x8 x10 (fun x11 h =>
  sR g h x5 5 [12, 13, 14] x7 x11 fun h =>
  gR h v0 [2] 9 fun x12 =>
  gI h x12 [9] 7 fun x13 =>
  pV g h x12 [9] 7 (.int (x13 + 1)) fun h =>
  K () h) E h) E h) E h
def w_X2_personLine (g : GT) (v0 : Option Nat) (K : Unit → AH → Prop) (E : Nat → AH → Prop) (h : AH) : Prop :=
  gR h v0 [2] 9 fun x1 =>
  gI h x1 [9] 7 fun x2 =>
  (6 ≤ x2 → (w_X2_personLine_J18 g v0 0 v0 K E h)) ∧ (¬ 6 ≤ x2 → (w_X2_personLine_J18 g v0 1 v0 K E h))
def w_X15_init (g : GT) (v0 : Option Nat) (v1 : Option Nat) (v2 : Int32) (K : Unit → AH → Prop) (E : Nat → AH → Prop) (h : AH) : Prop :=
  ¬ v0 = none ∧ w_X10_init g v0 v1 v2 (fun _ h =>
  pV g h v0 [16, 17, 18, 19] 4 (.int (-2)) fun h =>
  K () h) E0 h
def w_X16_init (g : GT) (v0 : Option Nat) (v1 : Option Nat) (v2 : Int32) (K : Unit → AH → Prop) (E : Nat → AH → Prop) (h : AH) : Prop :=
  ¬ v0 = none ∧ w_X15_init g v0 v1 v2 (fun _ h =>
  K () h) E0 h
def w_X17_init (g : GT) (v0 : Option Nat) (v1 : Option Nat) (v2 : Int32) (K : Unit → AH → Prop) (E : Nat → AH → Prop) (h : AH) : Prop :=
  ¬ v0 = none ∧ w_X15_init g v0 v1 v2 (fun _ h =>
  K () h) E0 h
def w_X18_init (g : GT) (v0 : Option Nat) (v1 : Option Nat) (v2 : Int32) (K : Unit → AH → Prop) (E : Nat → AH → Prop) (h : AH) : Prop :=
  ¬ v0 = none ∧ w_X15_init g v0 v1 v2 (fun _ h =>
  K () h) E0 h
def w_X19_init (g : GT) (v0 : Option Nat) (v1 : Option Nat) (v2 : Int32) (K : Unit → AH → Prop) (E : Nat → AH → Prop) (h : AH) : Prop :=
  ¬ v0 = none ∧ w_X15_init g v0 v1 v2 (fun _ h =>
  K () h) E0 h
def w_X2_umbrellaOf (g : GT) (v0 : Option Nat) (v1 : Option Nat) (v2 : Int32) (K : Option Nat → AH → Prop) (E : Nat → AH → Prop) (h : AH) : Prop :=
  isO h v0 2 ∧ w_X2_takes g v0 (some (g.2.2.2.1 15)) (fun x1 h =>
  (x1 = 0 → (isO h v0 2 ∧ w_X2_takes g v0 (some (g.2.2.2.1 16)) (fun x3 h =>
  (x3 = 0 → (isO h v0 2 ∧ w_X2_takes g v0 (some (g.2.2.2.1 17)) (fun x5 h =>
  (x5 = 0 → (isO h v0 2 ∧ w_X2_must g v0 (some (g.2.2.2.1 18)) (fun _ h =>
  nO g h 19 5 [va_rf none, .int 0, .int 0, .int 0, .int 0] fun x7 h =>
  ¬ x7 = none ∧ w_X19_init g x7 v1 v2 (fun _ h =>
  K x7 h) E0 h) E h)) ∧ (¬ x5 = 0 → (nO g h 18 5 [va_rf none, .int 0, .int 0, .int 0, .int 0] fun x8 h =>
  ¬ x8 = none ∧ w_X18_init g x8 v1 v2 (fun _ h =>
  K x8 h) E0 h))) E0 h)) ∧ (¬ x3 = 0 → (nO g h 17 5 [va_rf none, .int 0, .int 0, .int 0, .int 0] fun x9 h =>
  ¬ x9 = none ∧ w_X17_init g x9 v1 v2 (fun _ h =>
  K x9 h) E0 h))) E0 h)) ∧ (¬ x1 = 0 → (nO g h 16 5 [va_rf none, .int 0, .int 0, .int 0, .int 0] fun x10 h =>
  ¬ x10 = none ∧ w_X16_init g x10 v1 v2 (fun _ h =>
  K x10 h) E0 h))) E0 h
def w_X2_person (g : GT) (v0 : Option Nat) (K : Int32 → AH → Prop) (E : Nat → AH → Prop) (h : AH) : Prop :=
  isO h v0 2 ∧ w_X2_mustName g v0 (fun _ h =>
  gR h v0 [2] 9 fun x1 =>
  gR h v0 [2] 8 fun x2 =>
  isO h x1 9 ∧ w_X9_find g x1 x2 (fun x3 h =>
  iO h x3 [12, 13, 14] [16, 17, 18, 19] fun x4 =>
  (¬ x4 = 0 → (isO h v0 2 ∧ w_X2_next g v0 (fun _ h =>
  gI h x3 [12, 13, 14, 16, 17, 18, 19] 1 fun x6 =>
  K x6 h) E0 h)) ∧ (x4 = 0 → (isO h v0 2 ∧ w_X2_fail g v0 2 (fun x7 h =>
  tO h x7 E) E0 h))) E0 h) E h
def w_X2_umbrellaLine_J79 (g : GT) (v0 : Option Nat) (v1 : Option Nat) (K : Unit → AH → Prop) (E : Nat → AH → Prop) (h : AH) : Prop :=
  gR h v0 [2] 9 fun x12 =>
  gR h x12 [9] 1 fun x13 =>
  gR h v0 [2] 9 fun x14 =>
  gI h x14 [9] 8 fun x15 =>
  sR g h x13 6 [16, 17, 18, 19] x15 v1 fun h =>
  gR h v0 [2] 9 fun x16 =>
  gI h x16 [9] 8 fun x17 =>
  pV g h x16 [9] 8 (.int (x17 + 1)) fun h =>
  K () h
def w_X2_umbrellaLine_J17 (g : GT) (v0 : Option Nat) (s0 : Int32) (s1 : Option Nat) (K : Unit → AH → Prop) (E : Nat → AH → Prop) (h : AH) : Prop :=
  isO h s1 2 ∧ w_X2_begins g s1 s0 (fun _ h =>
  isO h v0 2 ∧ w_X2_newName g v0 (fun x4 h =>
  gR h v0 [2] 9 fun x5 =>
  gI h x5 [9] 8 fun x6 =>
  isO h v0 2 ∧ w_X2_umbrellaOf g v0 x4 x6 (fun x7 h =>
  isO h v0 2 ∧ w_X2_after g v0 (some (g.2.2.2.1 19)) 0 99 (fun x8 h =>
  pV g h x7 [16, 17, 18, 19] 2 (.int x8) fun h =>
  isO h v0 2 ∧ w_X2_after g v0 (some (g.2.2.2.1 20)) 4 12 (fun x9 h =>
  pV g h x7 [16, 17, 18, 19] 3 (.int x9) fun h =>
  isO h v0 2 ∧ w_X2_takes g v0 (some (g.2.2.2.1 21)) (fun x10 h =>
  (x10 = 0 → (w_X2_umbrellaLine_J79 g v0 x7 K E h)) ∧ (¬ x10 = 0 → (isO h v0 2 ∧ w_X2_person g v0 (fun x18 h =>
  pV g h x7 [16, 17, 18, 19] 4 (.int x18) fun h =>
  w_X2_umbrellaLine_J79 g v0 x7 K E h) E h))) E0 h) E h) E h) E h) E h) E h
def w_X2_umbrellaLine (g : GT) (v0 : Option Nat) (K : Unit → AH → Prop) (E : Nat → AH → Prop) (h : AH) : Prop :=
  gR h v0 [2] 9 fun x1 =>
  gI h x1 [9] 8 fun x2 =>
  (5 ≤ x2 → (w_X2_umbrellaLine_J17 g v0 0 v0 K E h)) ∧ (¬ 5 ≤ x2 → (w_X2_umbrellaLine_J17 g v0 1 v0 K E h))
def w_X2_hasRoom (g : GT) (v0 : Option Nat) (K : Int32 → AH → Prop) (E : Nat → AH → Prop) (h : AH) : Prop :=
  gR h v0 [2] 9 fun x1 =>
  gI h x1 [9] 9 fun x2 =>
  (16 ≤ x2 → (nz .boolean 0 (K 0 h))) ∧ (¬ 16 ≤ x2 → (nz .boolean 1 (K 1 h)))
def w_X2_umbrellaHere (g : GT) (v0 : Option Nat) (K : Int32 → AH → Prop) (E : Nat → AH → Prop) (h : AH) : Prop :=
  isO h v0 2 ∧ w_X2_mustName g v0 (fun _ h =>
  gR h v0 [2] 9 fun x1 =>
  gR h v0 [2] 8 fun x2 =>
  isO h x1 9 ∧ w_X9_find g x1 x2 (fun x3 h =>
  iO h x3 [16, 17, 18, 19] [12, 13, 14] fun x4 =>
  (¬ x4 = 0 → (gI h x3 [12, 13, 14, 16, 17, 18, 19] 1 fun x6 =>
  K x6 h)) ∧ (x4 = 0 → (isO h v0 2 ∧ w_X2_fail g v0 2 (fun x7 h =>
  tO h x7 E) E0 h))) E0 h) E h
def w_X2_umbrella (g : GT) (v0 : Option Nat) (K : Int32 → AH → Prop) (E : Nat → AH → Prop) (h : AH) : Prop :=
  isO h v0 2 ∧ w_X2_umbrellaHere g v0 (fun x1 h =>
  isO h v0 2 ∧ w_X2_next g v0 (fun _ h =>
  K x1 h) E0 h) E h
def w_X20_init (g : GT) (v0 : Option Nat) (v1 : Int32) (K : Unit → AH → Prop) (E : Nat → AH → Prop) (h : AH) : Prop :=
  ¬ v0 = none ∧ (pV g h v0 [21, 22, 23, 24] 0 (.int v1) fun h =>
  K () h)
def w_X21_init (g : GT) (v0 : Option Nat) (v1 : Int32) (v2 : Int32) (K : Unit → AH → Prop) (E : Nat → AH → Prop) (h : AH) : Prop :=
  ¬ v0 = none ∧ w_X20_init g v0 v1 (fun _ h =>
  pV g h v0 [21] 2 (.int v2) fun h =>
  K () h) E0 h
def w_X2_logs_J39 (g : GT) (v0 : Option Nat) (v1 : Option Nat) (s0 : Int32) (s1 : Option Nat) (s2 : Option Nat) (s3 : Option Nat) (K : Unit → AH → Prop) (E : Nat → AH → Prop) (h : AH) : Prop :=
  isO h s2 2 ∧ w_X2_after g s2 s1 s0 40 (fun x10 h =>
  pV g h s3 [21, 22, 23, 24] 1 (.int x10) fun h =>
  gR h v0 [2] 9 fun x11 =>
  gR h x11 [9] 2 fun x12 =>
  gR h v0 [2] 9 fun x13 =>
  gI h x13 [9] 9 fun x14 =>
  sR g h x12 7 [21, 22, 23, 24] x14 v1 fun h =>
  gR h v0 [2] 9 fun x15 =>
  gI h x15 [9] 9 fun x16 =>
  pV g h x15 [9] 9 (.int (x16 + 1)) fun h =>
  K () h) E h
def w_X2_logs (g : GT) (v0 : Option Nat) (v1 : Option Nat) (K : Unit → AH → Prop) (E : Nat → AH → Prop) (h : AH) : Prop :=
  gR h v0 [2] 9 fun x1 =>
  gI h x1 [9] 9 fun x2 =>
  (¬ x2 = 0 → (gR h v0 [2] 9 fun x4 =>
  gR h x4 [9] 2 fun x5 =>
  gR h v0 [2] 9 fun x6 =>
  gI h x6 [9] 9 fun x7 =>
  aR h x5 7 (x7 - 1) fun x8 =>
  gI h x8 [21, 22, 23, 24] 1 fun x9 =>
  w_X2_logs_J39 g v0 v1 x9 (some (g.2.2.2.1 22)) v0 v1 K E h)) ∧ (x2 = 0 → (w_X2_logs_J39 g v0 v1 0 (some (g.2.2.2.1 22)) v0 v1 K E h))
def w_X2_lentLine (g : GT) (v0 : Option Nat) (K : Unit → AH → Prop) (E : Nat → AH → Prop) (h : AH) : Prop :=
  isO h v0 2 ∧ w_X2_hasRoom g v0 (fun x1 h =>
  isO h v0 2 ∧ w_X2_begins g v0 x1 (fun _ h =>
  isO h v0 2 ∧ w_X2_umbrella g v0 (fun x2 h =>
  nO g h 21 3 [.int 0, .int 0, .int 0] fun x3 h =>
  isO h v0 2 ∧ w_X2_person g v0 (fun x4 h =>
  ¬ x3 = none ∧ w_X21_init g x3 x2 x4 (fun _ h =>
  isO h v0 2 ∧ w_X2_logs g v0 x3 (fun _ h =>
  K () h) E h) E0 h) E h) E h) E h) E0 h
def w_X22_init (g : GT) (v0 : Option Nat) (v1 : Int32) (K : Unit → AH → Prop) (E : Nat → AH → Prop) (h : AH) : Prop :=
  ¬ v0 = none ∧ w_X20_init g v0 v1 (fun _ h =>
  K () h) E0 h
def w_X2_leftLine (g : GT) (v0 : Option Nat) (K : Unit → AH → Prop) (E : Nat → AH → Prop) (h : AH) : Prop :=
  isO h v0 2 ∧ w_X2_hasRoom g v0 (fun x1 h =>
  isO h v0 2 ∧ w_X2_begins g v0 x1 (fun _ h =>
  nO g h 22 2 [.int 0, .int 0] fun x2 h =>
  isO h v0 2 ∧ w_X2_umbrella g v0 (fun x3 h =>
  ¬ x2 = none ∧ w_X22_init g x2 x3 (fun _ h =>
  isO h v0 2 ∧ w_X2_logs g v0 x2 (fun _ h =>
  K () h) E h) E0 h) E h) E h) E0 h
def w_X23_init (g : GT) (v0 : Option Nat) (v1 : Int32) (v2 : Int32) (K : Unit → AH → Prop) (E : Nat → AH → Prop) (h : AH) : Prop :=
  ¬ v0 = none ∧ w_X20_init g v0 v1 (fun _ h =>
  pV g h v0 [23] 2 (.int v2) fun h =>
  K () h) E0 h
def w_X2_changedLine (g : GT) (v0 : Option Nat) (K : Unit → AH → Prop) (E : Nat → AH → Prop) (h : AH) : Prop :=
  isO h v0 2 ∧ w_X2_hasRoom g v0 (fun x1 h =>
  isO h v0 2 ∧ w_X2_begins g v0 x1 (fun _ h =>
  isO h v0 2 ∧ w_X2_umbrella g v0 (fun x2 h =>
  isO h v0 2 ∧ w_X2_umbrellaHere g v0 (fun x3 h =>
  (¬ x2 = x3 → (isO h v0 2 ∧ w_X2_next g v0 (fun _ h =>
  nO g h 23 3 [.int 0, .int 0, .int 0] fun x5 h =>
  ¬ x5 = none ∧ w_X23_init g x5 x2 x3 (fun _ h =>
  isO h v0 2 ∧ w_X2_logs g v0 x5 (fun _ h =>
  K () h) E h) E0 h) E0 h)) ∧ (x2 = x3 → (isO h v0 2 ∧ w_X2_fail g v0 3 (fun x6 h =>
  tO h x6 E) E0 h))) E h) E h) E h) E0 h
def w_X24_init (g : GT) (v0 : Option Nat) (K : Unit → AH → Prop) (E : Nat → AH → Prop) (h : AH) : Prop :=
  ¬ v0 = none ∧ w_X20_init g v0 (-2) (fun _ h =>
  K () h) E0 h
def w_X2_rainLine (g : GT) (v0 : Option Nat) (K : Unit → AH → Prop) (E : Nat → AH → Prop) (h : AH) : Prop :=
  isO h v0 2 ∧ w_X2_hasRoom g v0 (fun x1 h =>
  isO h v0 2 ∧ w_X2_begins g v0 x1 (fun _ h =>
  nO g h 24 2 [.int 0, .int 0] fun x2 h =>
  ¬ x2 = none ∧ w_X24_init g x2 (fun _ h =>
  isO h v0 2 ∧ w_X2_logs g v0 x2 (fun _ h =>
  K () h) E h) E0 h) E h) E0 h
def w_X25_init (g : GT) (v0 : Option Nat) (K : Unit → AH → Prop) (E : Nat → AH → Prop) (h : AH) : Prop :=
  ¬ v0 = none ∧ (K () h)
def w_X2_claimsLine_J18 (g : GT) (v0 : Option Nat) (s0 : Int32) (s1 : Option Nat) (K : Unit → AH → Prop) (E : Nat → AH → Prop) (h : AH) : Prop :=
  isO h s1 2 ∧ w_X2_begins g s1 s0 (fun _ h =>
  nO g h 25 3 [.int 0, .int 0, .int 0] fun x4 h =>
  ¬ x4 = none ∧ w_X25_init g x4 (fun _ h =>
  isO h v0 2 ∧ w_X2_person g v0 (fun x5 h =>
  pV g h x4 [25] 0 (.int x5) fun h =>
  isO h v0 2 ∧ w_X2_umbrella g v0 (fun x6 h =>
  pV g h x4 [25] 1 (.int x6) fun h =>
  isO h v0 2 ∧ w_X2_after g v0 (some (g.2.2.2.1 22)) 0 40 (fun x7 h =>
  pV g h x4 [25] 2 (.int x7) fun h =>
  gR h v0 [2] 9 fun x8 =>
  gR h x8 [9] 3 fun x9 =>
  gR h v0 [2] 9 fun x10 =>
  gI h x10 [9] 10 fun x11 =>
  sR g h x9 8 [25] x11 x4 fun h =>
  gR h v0 [2] 9 fun x12 =>
  gI h x12 [9] 10 fun x13 =>
  pV g h x12 [9] 10 (.int (x13 + 1)) fun h =>
  K () h) E h) E h) E h) E0 h) E h
def w_X2_claimsLine (g : GT) (v0 : Option Nat) (K : Unit → AH → Prop) (E : Nat → AH → Prop) (h : AH) : Prop :=
  gR h v0 [2] 9 fun x1 =>
  gI h x1 [9] 10 fun x2 =>
  (6 ≤ x2 → (w_X2_claimsLine_J18 g v0 0 v0 K E h)) ∧ (¬ 6 ≤ x2 → (w_X2_claimsLine_J18 g v0 1 v0 K E h))
def w_X2_line_J211 (g : GT) (v0 : Option Nat) (v2 : Int32) (K : Unit → AH → Prop) (E : Nat → AH → Prop) (h : AH) : Prop :=
  swT v2 [(0, isO h v0 2 ∧ w_X2_countyLine g v0 (fun _ h =>
  K () h) E h),
  (1, isO h v0 2 ∧ w_X2_personLine g v0 (fun _ h =>
  K () h) E h),
  (2, isO h v0 2 ∧ w_X2_umbrellaLine g v0 (fun _ h =>
  K () h) E h),
  (3, isO h v0 2 ∧ w_X2_lentLine g v0 (fun _ h =>
  K () h) E h),
  (4, isO h v0 2 ∧ w_X2_leftLine g v0 (fun _ h =>
  K () h) E h),
  (5, isO h v0 2 ∧ w_X2_changedLine g v0 (fun _ h =>
  K () h) E h),
  (6, isO h v0 2 ∧ w_X2_rainLine g v0 (fun _ h =>
  K () h) E h),
  (7, isO h v0 2 ∧ w_X2_claimsLine g v0 (fun _ h =>
  K () h) E h)] (isO h v0 2 ∧ w_X2_fail g v0 1 (fun x9 h =>
  tO h x9 E) E0 h)
def w_X2_line (g : GT) (v0 : Option Nat) (K : Unit → AH → Prop) (E : Nat → AH → Prop) (h : AH) : Prop :=
  gI h v0 [2] 5 fun x1 =>
  (x1 = 2 → (gR h v0 [2] 8 fun x3 =>
  isO h x3 0 ∧ w_J3_hashCode g x3 (fun x4 h =>
  swT x4 [((-1381913276), isO h x3 0 ∧ w_J3_equals g x3 (some (g.2.2.2.1 3)) (fun x6 h =>
  (x6 = 0 → (w_X2_line_J211 g v0 (-1) K E h)) ∧ (¬ x6 = 0 → (w_X2_line_J211 g v0 2 K E h))) E0 h),
  ((-1357946953), isO h x3 0 ∧ w_J3_equals g x3 (some (g.2.2.2.1 8)) (fun x10 h =>
  (x10 = 0 → (w_X2_line_J211 g v0 (-1) K E h)) ∧ (¬ x10 = 0 → (w_X2_line_J211 g v0 7 K E h))) E0 h),
  ((-1354575542), isO h x3 0 ∧ w_J3_equals g x3 (some (g.2.2.2.1 1)) (fun x12 h =>
  (x12 = 0 → (w_X2_line_J211 g v0 (-1) K E h)) ∧ (¬ x12 = 0 → (w_X2_line_J211 g v0 0 K E h))) E0 h),
  ((-991716523), isO h x3 0 ∧ w_J3_equals g x3 (some (g.2.2.2.1 2)) (fun x14 h =>
  (x14 = 0 → (w_X2_line_J211 g v0 (-1) K E h)) ∧ (¬ x14 = 0 → (w_X2_line_J211 g v0 1 K E h))) E0 h),
  (3317767, isO h x3 0 ∧ w_J3_equals g x3 (some (g.2.2.2.1 5)) (fun x16 h =>
  (x16 = 0 → (w_X2_line_J211 g v0 (-1) K E h)) ∧ (¬ x16 = 0 → (w_X2_line_J211 g v0 4 K E h))) E0 h),
  (3318015, isO h x3 0 ∧ w_J3_equals g x3 (some (g.2.2.2.1 4)) (fun x18 h =>
  (x18 = 0 → (w_X2_line_J211 g v0 (-1) K E h)) ∧ (¬ x18 = 0 → (w_X2_line_J211 g v0 3 K E h))) E0 h),
  (3492756, isO h x3 0 ∧ w_J3_equals g x3 (some (g.2.2.2.1 7)) (fun x20 h =>
  (x20 = 0 → (w_X2_line_J211 g v0 (-1) K E h)) ∧ (¬ x20 = 0 → (w_X2_line_J211 g v0 6 K E h))) E0 h),
  (738943668, isO h x3 0 ∧ w_J3_equals g x3 (some (g.2.2.2.1 6)) (fun x22 h =>
  (x22 = 0 → (w_X2_line_J211 g v0 (-1) K E h)) ∧ (¬ x22 = 0 → (w_X2_line_J211 g v0 5 K E h))) E0 h)] (w_X2_line_J211 g v0 (-1) K E h)) E0 h)) ∧ (¬ x1 = 2 → (isO h v0 2 ∧ w_X2_fail g v0 1 (fun x24 h =>
  tO h x24 E) E0 h))
def w_X2_read_J92 (g : GT) (v0 : Option Nat) (K : Option Nat → AH → Prop) (E : Nat → AH → Prop) (h : AH) : Prop :=
  isO h v0 2 ∧ w_X2_fail g v0 6 (fun x9 h =>
  tO h x9 E) E0 h
def w_X2_read_L29 (g : GT) (v0 : Option Nat) (K : Option Nat → AH → Prop) (E : Nat → AH → Prop) (L29 : AH → Prop) (h : AH) : Prop :=
  gI h v0 [2] 5 fun x2 =>
  (¬ x2 = 59 → (gI h v0 [2] 5 fun x4 =>
  (x4 = 0 → (gR h v0 [2] 9 fun x6 =>
  gI h x6 [9] 4 fun x7 =>
  (x7 = 0 → (w_X2_read_J92 g v0 K E h)) ∧ (¬ x7 = 0 → (gR h v0 [2] 9 fun x10 =>
  gI h x10 [9] 7 fun x11 =>
  (x11 = 0 → (w_X2_read_J92 g v0 K E h)) ∧ (¬ x11 = 0 → (gR h v0 [2] 9 fun x13 =>
  gI h x13 [9] 8 fun x14 =>
  (¬ x14 = 0 → (gR h v0 [2] 9 fun x16 =>
  K x16 h)) ∧ (x14 = 0 → (w_X2_read_J92 g v0 K E h)))))))) ∧ (¬ x4 = 0 → (isO h v0 2 ∧ w_X2_fail g v0 1 (fun x17 h =>
  tO h x17 E) E0 h)))) ∧ (x2 = 59 → (isO h v0 2 ∧ w_X2_next g v0 (fun _ h =>
  isO h v0 2 ∧ w_X2_line g v0 (fun _ h =>
  L29 h) E h) E0 h))
def w_X2_read (g : GT) (v0 : Option Nat) (v1 : Int32) (K : Option Nat → AH → Prop) (E : Nat → AH → Prop) (h : AH) : Prop :=
  pV g h v0 [2] 3 (.int v1) fun h =>
  pV g h v0 [2] 4 (.int 0) fun h =>
  nO g h 9 11 [va_rf none, va_rf none, va_rf none, va_rf none, .int 0, .int 0, .int 0, .int 0, .int 0, .int 0, .int 0] fun x1 h =>
  ¬ x1 = none ∧ w_X9_init g x1 (fun _ h =>
  pV g h v0 [2] 9 (va_rf x1) fun h =>
  isO h v0 2 ∧ w_X2_next g v0 (fun _ h =>
  isO h v0 2 ∧ w_X2_line g v0 (fun _ h =>
  Lp0 (w_X2_read_L29 g v0 K E) h) E h) E0 h) E0 h
def w_X15_isTitled (g : GT) (v0 : Option Nat) (K : Int32 → AH → Prop) (E : Nat → AH → Prop) (h : AH) : Prop :=
  nz .boolean 1 (K 1 h)
def w_X18_isTitled (g : GT) (v0 : Option Nat) (K : Int32 → AH → Prop) (E : Nat → AH → Prop) (h : AH) : Prop :=
  nz .boolean 0 (K 0 h)
def w_X11_canHold (g : GT) (v0 : Option Nat) (K : Int32 → AH → Prop) (E : Nat → AH → Prop) (h : AH) : Prop :=
  nz .boolean 1 (K 1 h)
def w_X13_canHold (g : GT) (v0 : Option Nat) (K : Int32 → AH → Prop) (E : Nat → AH → Prop) (h : AH) : Prop :=
  nz .boolean 0 (K 0 h)
def w_X4_takes (g : GT) (v0 : Option Nat) (v1 : Int32) (K : Unit → AH → Prop) (E : Nat → AH → Prop) (h : AH) : Prop :=
  gR h v0 [4] 0 fun x1 =>
  aI h x1 0 v1 fun x2 =>
  (x2 = (-2) → (K () h)) ∧ (¬ x2 = (-2) → (gR h v0 [4] 2 fun x4 =>
  gR h x4 [9] 0 fun x5 =>
  gR h v0 [4] 0 fun x6 =>
  aI h x6 0 v1 fun x7 =>
  aR h x5 5 x7 fun x8 =>
  letK (fun x9 h =>
  (x9 = 0 → (K () h)) ∧ (¬ x9 = 0 → (gR h v0 [4] 1 fun x12 =>
  gR h v0 [4] 0 fun x13 =>
  aI h x13 0 v1 fun x14 =>
  sI g h x12 0 v1 x14 fun h =>
  K () h))) (fun K10 => (isO h x8 12 ∧ w_X11_canHold g x8 K10 E0 h) ∨ (isO h x8 13 ∧ w_X13_canHold g x8 K10 E0 h) ∨ (isO h x8 14 ∧ w_X11_canHold g x8 K10 E0 h))))
def w_X4_begin_J60 (g : GT) (v0 : Option Nat) (v1 : Option Nat) (v2 : Int32) (K : Unit → AH → Prop) (E : Nat → AH → Prop) (L12 : Int32 → AH → Prop) (h : AH) : Prop :=
  nmI (v2 + 1) fun x13 =>
  L12 x13 h
def w_X4_begin_L12 (g : GT) (v0 : Option Nat) (v1 : Option Nat) (K : Unit → AH → Prop) (E : Nat → AH → Prop) (L12 : Int32 → AH → Prop) (v2 : Int32) (h : AH) : Prop :=
  gI h v1 [9] 8 fun x1 =>
  (x1 ≤ v2 → (K () h)) ∧ (¬ x1 ≤ v2 → (gR h v0 [4] 0 fun x3 =>
  gR h v1 [9] 1 fun x4 =>
  aR h x4 6 v2 fun x5 =>
  gI h x5 [16, 17, 18, 19] 4 fun x6 =>
  sI g h x3 0 v2 x6 fun h =>
  gR h v0 [4] 1 fun x7 =>
  sI g h x7 0 v2 (-2) fun h =>
  gR h v1 [9] 1 fun x8 =>
  aR h x8 6 v2 fun x9 =>
  letK (fun x10 h =>
  (x10 = 0 → (w_X4_begin_J60 g v0 v1 v2 K E L12 h)) ∧ (¬ x10 = 0 → (isO h v0 4 ∧ w_X4_takes g v0 v2 (fun _ h =>
  w_X4_begin_J60 g v0 v1 v2 K E L12 h) E0 h))) (fun K11 => (isO h x9 16 ∧ w_X15_isTitled g x9 K11 E0 h) ∨ (isO h x9 17 ∧ w_X15_isTitled g x9 K11 E0 h) ∨ (isO h x9 18 ∧ w_X18_isTitled g x9 K11 E0 h) ∨ (isO h x9 19 ∧ w_X15_isTitled g x9 K11 E0 h))))
def w_X4_begin (g : GT) (v0 : Option Nat) (v1 : Option Nat) (K : Unit → AH → Prop) (E : Nat → AH → Prop) (h : AH) : Prop :=
  pV g h v0 [4] 2 (va_rf v1) fun h =>
  pV g h v0 [4] 3 (.int 0) fun h =>
  Lp1 (w_X4_begin_L12 g v0 v1 K E) 0 h
def w_X4_change (g : GT) (v0 : Option Nat) (v1 : Int32) (v2 : Int32) (K : Unit → AH → Prop) (E : Nat → AH → Prop) (h : AH) : Prop :=
  gR h v0 [4] 0 fun x1 =>
  aI h x1 0 v1 fun x2 =>
  gR h v0 [4] 0 fun x3 =>
  gR h v0 [4] 0 fun x4 =>
  aI h x4 0 v2 fun x5 =>
  sI g h x3 0 v1 x5 fun h =>
  gR h v0 [4] 0 fun x6 =>
  sI g h x6 0 v2 x2 fun h =>
  K () h
def w_X21_happens (g : GT) (v0 : Option Nat) (v1 : Option Nat) (K : Unit → AH → Prop) (E : Nat → AH → Prop) (h : AH) : Prop :=
  gR h v1 [4] 0 fun x1 =>
  gI h v0 [21] 0 fun x2 =>
  gI h v0 [21] 2 fun x3 =>
  sI g h x1 0 x2 x3 fun h =>
  K () h
def w_X22_happens (g : GT) (v0 : Option Nat) (v1 : Option Nat) (K : Unit → AH → Prop) (E : Nat → AH → Prop) (h : AH) : Prop :=
  gR h v1 [4] 0 fun x1 =>
  gI h v0 [22] 0 fun x2 =>
  sI g h x1 0 x2 (-2) fun h =>
  K () h
def w_X23_happens (g : GT) (v0 : Option Nat) (v1 : Option Nat) (K : Unit → AH → Prop) (E : Nat → AH → Prop) (h : AH) : Prop :=
  gI h v0 [23] 0 fun x1 =>
  gI h v0 [23] 2 fun x2 =>
  isO h v1 4 ∧ w_X4_change g v1 x1 x2 (fun _ h =>
  K () h) E0 h
def w_X24_happens (g : GT) (v0 : Option Nat) (v1 : Option Nat) (K : Unit → AH → Prop) (E : Nat → AH → Prop) (h : AH) : Prop :=
  K () h
def w_X20_isRain (g : GT) (v0 : Option Nat) (K : Int32 → AH → Prop) (E : Nat → AH → Prop) (h : AH) : Prop :=
  nz .boolean 0 (K 0 h)
def w_X24_isRain (g : GT) (v0 : Option Nat) (K : Int32 → AH → Prop) (E : Nat → AH → Prop) (h : AH) : Prop :=
  nz .boolean 1 (K 1 h)
def w_X15_passes (g : GT) (v0 : Option Nat) (v1 : Int32) (K : Int32 → AH → Prop) (E : Nat → AH → Prop) (h : AH) : Prop :=
  nz .boolean v1 (K v1 h)
def w_X18_passes (g : GT) (v0 : Option Nat) (v1 : Int32) (K : Int32 → AH → Prop) (E : Nat → AH → Prop) (h : AH) : Prop :=
  nz .boolean 0 (K 0 h)
def w_X19_passes (g : GT) (v0 : Option Nat) (v1 : Int32) (K : Int32 → AH → Prop) (E : Nat → AH → Prop) (h : AH) : Prop :=
  isO h v0 19 ∧ w_X15_passes g v0 v1 (fun x1 h =>
  (¬ x1 = 0 → (nz .boolean 0 (K 0 h))) ∧ (x1 = 0 → (nz .boolean 1 (K 1 h)))) E0 h
def w_X16_doesLapse (g : GT) (v0 : Option Nat) (K : Int32 → AH → Prop) (E : Nat → AH → Prop) (h : AH) : Prop :=
  nz .boolean 0 (K 0 h)
def w_X15_doesLapse (g : GT) (v0 : Option Nat) (K : Int32 → AH → Prop) (E : Nat → AH → Prop) (h : AH) : Prop :=
  nz .boolean 1 (K 1 h)
def w_X11_doesLeave (g : GT) (v0 : Option Nat) (K : Int32 → AH → Prop) (E : Nat → AH → Prop) (h : AH) : Prop :=
  nz .boolean 0 (K 0 h)
def w_X14_doesLeave (g : GT) (v0 : Option Nat) (K : Int32 → AH → Prop) (E : Nat → AH → Prop) (h : AH) : Prop :=
  nz .boolean 1 (K 1 h)
def w_X4_has_J33 (g : GT) (v0 : Option Nat) (v1 : Int32) (v3 : Int32) (s0 : Int32) (s1 : Int32) (K : Int32 → AH → Prop) (E : Nat → AH → Prop) (L4 : Int32 → Int32 → AH → Prop) (h : AH) : Prop :=
  nmI (s1 ||| s0) fun x7 =>
  nmI (v3 + 1) fun x8 =>
  L4 x7 x8 h
def w_X4_has_L4 (g : GT) (v0 : Option Nat) (v1 : Int32) (K : Int32 → AH → Prop) (E : Nat → AH → Prop) (L4 : Int32 → Int32 → AH → Prop) (v2 : Int32) (v3 : Int32) (h : AH) : Prop :=
  gR h v0 [4] 2 fun x1 =>
  gI h x1 [9] 8 fun x2 =>
  (x2 ≤ v3 → (K v2 h)) ∧ (¬ x2 ≤ v3 → (gR h v0 [4] 0 fun x4 =>
  aI h x4 0 v3 fun x5 =>
  (¬ x5 = v1 → (w_X4_has_J33 g v0 v1 v3 0 v2 K E L4 h)) ∧ (x5 = v1 → (w_X4_has_J33 g v0 v1 v3 (1 <<< (v3 &&& 31)) v2 K E L4 h))))
def w_X4_has (g : GT) (v0 : Option Nat) (v1 : Int32) (K : Int32 → AH → Prop) (E : Nat → AH → Prop) (h : AH) : Prop :=
  Lp2 (w_X4_has_L4 g v0 v1 K E) 0 0 h
def w_X1_ones_L4 (g : GT)  (K : Int32 → AH → Prop) (E : Nat → AH → Prop) (L4 : Int32 → Int32 → AH → Prop) (v1 : Int32) (v2 : Int32) (h : AH) : Prop :=
  (v2 = 0 → (K v1 h)) ∧ (¬ v2 = 0 → (nmI (v1 + 1) fun x2 =>
  nmI (v2 &&& (v2 - 1)) fun x3 =>
  L4 x2 x3 h))
def w_X1_ones (g : GT) (v0 : Int32) (K : Int32 → AH → Prop) (E : Nat → AH → Prop) (h : AH) : Prop :=
  Lp2 (w_X1_ones_L4 g  K E) 0 v0 h
def w_X1_has (g : GT) (v0 : Int32) (v1 : Int32) (K : Int32 → AH → Prop) (E : Nat → AH → Prop) (h : AH) : Prop :=
  (¬ ((v0 >>> (v1 &&& 31)) &&& 1) = 1 → (nz .boolean 0 (K 0 h))) ∧ (((v0 >>> (v1 &&& 31)) &&& 1) = 1 → (nz .boolean 1 (K 1 h)))
def w_X4_leaves_J79 (g : GT) (v0 : Option Nat) (v2 : Int32) (v3 : Int32) (v4 : Int32) (K : Unit → AH → Prop) (E : Nat → AH → Prop) (L21 : Int32 → Int32 → AH → Prop) (h : AH) : Prop :=
  nmI (v4 + 1) fun x10 =>
  L21 v3 x10 h
def w_X4_leaves_J76 (g : GT) (v0 : Option Nat) (v2 : Int32) (v4 : Int32) (K : Unit → AH → Prop) (E : Nat → AH → Prop) (L21 : Int32 → Int32 → AH → Prop) (h : AH) : Prop :=
  w_X4_leaves_J79 g v0 v2 v4 v4 K E L21 h
def w_X4_leaves_L21 (g : GT) (v0 : Option Nat) (v2 : Int32) (K : Unit → AH → Prop) (E : Nat → AH → Prop) (L21 : Int32 → Int32 → AH → Prop) (v3 : Int32) (v4 : Int32) (h : AH) : Prop :=
  gR h v0 [4] 2 fun x4 =>
  gI h x4 [9] 8 fun x5 =>
  (x5 ≤ v4 → (gR h v0 [4] 0 fun x7 =>
  sI g h x7 0 v3 (-2) fun h =>
  K () h)) ∧ (¬ x5 ≤ v4 → (w_X1_has g v2 v4 (fun x8 h =>
  (x8 = 0 → (w_X4_leaves_J79 g v0 v2 v3 v4 K E L21 h)) ∧ (¬ x8 = 0 → ((v3 = (-2) → (w_X4_leaves_J76 g v0 v2 v4 K E L21 h)) ∧ (¬ v3 = (-2) → (gR h v0 [4] 2 fun x12 =>
  gR h x12 [9] 1 fun x13 =>
  aR h x13 6 v4 fun x14 =>
  gI h x14 [16, 17, 18, 19] 2 fun x15 =>
  gR h v0 [4] 2 fun x16 =>
  gR h x16 [9] 1 fun x17 =>
  aR h x17 6 v3 fun x18 =>
  gI h x18 [16, 17, 18, 19] 2 fun x19 =>
  (x19 ≤ x15 → (w_X4_leaves_J79 g v0 v2 v3 v4 K E L21 h)) ∧ (¬ x19 ≤ x15 → (w_X4_leaves_J76 g v0 v2 v4 K E L21 h))))))) E0 h))
def w_X4_leaves (g : GT) (v0 : Option Nat) (v1 : Int32) (K : Unit → AH → Prop) (E : Nat → AH → Prop) (h : AH) : Prop :=
  isO h v0 4 ∧ w_X4_has g v0 v1 (fun x1 h =>
  w_X1_ones g x1 (fun x2 h =>
  (2 ≤ x2 → (Lp2 (w_X4_leaves_L21 g v0 x1 K E) (-2) 0 h)) ∧ (¬ 2 ≤ x2 → (K () h))) E0 h) E0 h
def w_X4_ends_J152 (g : GT) (v0 : Option Nat) (v2 : Int32) (K : Unit → AH → Prop) (E : Nat → AH → Prop) (L121 : Int32 → AH → Prop) (h : AH) : Prop :=
  nmI (v2 + 1) fun x18 =>
  L121 x18 h
def w_X4_ends_L121 (g : GT) (v0 : Option Nat) (K : Unit → AH → Prop) (E : Nat → AH → Prop) (L121 : Int32 → AH → Prop) (v2 : Int32) (h : AH) : Prop :=
  gR h v0 [4] 2 fun x9 =>
  gI h x9 [9] 7 fun x10 =>
  (x10 ≤ v2 → (K () h)) ∧ (¬ x10 ≤ v2 → (gR h v0 [4] 2 fun x12 =>
  gR h x12 [9] 0 fun x13 =>
  aR h x13 5 v2 fun x14 =>
  letK (fun x15 h =>
  (x15 = 0 → (w_X4_ends_J152 g v0 v2 K E L121 h)) ∧ (¬ x15 = 0 → (isO h v0 4 ∧ w_X4_leaves g v0 v2 (fun _ h =>
  w_X4_ends_J152 g v0 v2 K E L121 h) E0 h))) (fun K16 => (isO h x14 12 ∧ w_X11_doesLeave g x14 K16 E0 h) ∨ (isO h x14 13 ∧ w_X11_doesLeave g x14 K16 E0 h) ∨ (isO h x14 14 ∧ w_X14_doesLeave g x14 K16 E0 h))))
def w_X4_ends_J119 (g : GT) (v0 : Option Nat) (K : Unit → AH → Prop) (E : Nat → AH → Prop) (h : AH) : Prop :=
  Lp1 (w_X4_ends_L121 g v0 K E) 0 h
def w_X4_ends_J113 (g : GT) (v0 : Option Nat) (v2 : Int32) (K : Unit → AH → Prop) (E : Nat → AH → Prop) (L65 : Int32 → AH → Prop) (h : AH) : Prop :=
  nmI (v2 + 1) fun x29 =>
  L65 x29 h
def w_X4_ends_L65 (g : GT) (v0 : Option Nat) (K : Unit → AH → Prop) (E : Nat → AH → Prop) (L65 : Int32 → AH → Prop) (v2 : Int32) (h : AH) : Prop :=
  gR h v0 [4] 2 fun x6 =>
  gI h x6 [9] 8 fun x7 =>
  (x7 ≤ v2 → (w_X4_ends_J119 g v0 K E h)) ∧ (¬ x7 ≤ v2 → (gI h v0 [4] 3 fun x19 =>
  gR h v0 [4] 2 fun x20 =>
  gI h x20 [9] 4 fun x21 =>
  (x19 < x21 → (w_X4_ends_J119 g v0 K E h)) ∧ (¬ x19 < x21 → (gR h v0 [4] 2 fun x23 =>
  gR h x23 [9] 1 fun x24 =>
  aR h x24 6 v2 fun x25 =>
  letK (fun x26 h =>
  (x26 = 0 → (w_X4_ends_J113 g v0 v2 K E L65 h)) ∧ (¬ x26 = 0 → (gR h v0 [4] 1 fun x30 =>
  sI g h x30 0 v2 (-2) fun h =>
  w_X4_ends_J113 g v0 v2 K E L65 h))) (fun K27 => (isO h x25 16 ∧ w_X16_doesLapse g x25 K27 E0 h) ∨ (isO h x25 17 ∧ w_X15_doesLapse g x25 K27 E0 h) ∨ (isO h x25 18 ∧ w_X15_doesLapse g x25 K27 E0 h) ∨ (isO h x25 19 ∧ w_X15_doesLapse g x25 K27 E0 h))))))
def w_X4_ends_J57 (g : GT) (v0 : Option Nat) (v1 : Int32) (v2 : Int32) (K : Unit → AH → Prop) (E : Nat → AH → Prop) (L25 : Int32 → AH → Prop) (h : AH) : Prop :=
  nmI (v2 + 1) fun x37 =>
  L25 x37 h
def w_X4_ends_L25 (g : GT) (v0 : Option Nat) (v1 : Int32) (K : Unit → AH → Prop) (E : Nat → AH → Prop) (L25 : Int32 → AH → Prop) (v2 : Int32) (h : AH) : Prop :=
  gR h v0 [4] 2 fun x3 =>
  gI h x3 [9] 8 fun x4 =>
  (x4 ≤ v2 → (Lp1 (w_X4_ends_L65 g v0 K E) 0 h)) ∧ (¬ x4 ≤ v2 → (gR h v0 [4] 2 fun x31 =>
  gR h x31 [9] 1 fun x32 =>
  aR h x32 6 v2 fun x33 =>
  letK (fun x34 h =>
  (x34 = 0 → (w_X4_ends_J57 g v0 v1 v2 K E L25 h)) ∧ (¬ x34 = 0 → (isO h v0 4 ∧ w_X4_takes g v0 v2 (fun _ h =>
  w_X4_ends_J57 g v0 v1 v2 K E L25 h) E0 h))) (fun K35 => (isO h x33 16 ∧ w_X15_passes g x33 v1 K35 E0 h) ∨ (isO h x33 17 ∧ w_X15_passes g x33 v1 K35 E0 h) ∨ (isO h x33 18 ∧ w_X18_passes g x33 v1 K35 E0 h) ∨ (isO h x33 19 ∧ w_X19_passes g x33 v1 K35 E0 h))))
def w_X4_ends_J20 (g : GT) (v0 : Option Nat) (v1 : Int32) (s0 : Int32) (s1 : Option Nat) (K : Unit → AH → Prop) (E : Nat → AH → Prop) (h : AH) : Prop :=
  pV g h s1 [4] 3 (.int s0) fun h =>
  Lp1 (w_X4_ends_L25 g v0 v1 K E) 0 h
def w_X4_ends (g : GT) (v0 : Option Nat) (v1 : Int32) (K : Unit → AH → Prop) (E : Nat → AH → Prop) (h : AH) : Prop :=
  (v1 = 0 → (gI h v0 [4] 3 fun x2 =>
  w_X4_ends_J20 g v0 v1 (if (x2 + 1) < 30 then (x2 + 1) else 30) v0 K E h)) ∧ (¬ v1 = 0 → (w_X4_ends_J20 g v0 v1 0 v0 K E h))
def w_X5_run_J109 (g : GT) (v0 : Option Nat) (v1 : Option Nat) (v2 : Int32) (v3 : Int32) (v4 : Int32) (v5 : Int32) (v6 : Int32) (v7 : Int32) (K : Unit → AH → Prop) (E : Nat → AH → Prop) (L14 : Int32 → Int32 → AH → Prop) (h : AH) : Prop :=
  gR h v0 [5] 0 fun x6 =>
  isO h x6 4 ∧ w_X4_ends g x6 v7 (fun _ h =>
  gR h v0 [5] 0 fun x7 =>
  gR h x7 [4] 0 fun x8 =>
  gR h v0 [5] 1 fun x9 =>
  cI g h x8 0 x9 (5 * v6) 5 fun h =>
  gR h v0 [5] 0 fun x10 =>
  gR h x10 [4] 1 fun x11 =>
  gR h v0 [5] 2 fun x12 =>
  cI g h x11 0 x12 (5 * v6) 5 fun h =>
  nmI (v6 + 1) fun x13 =>
  L14 v5 x13 h) E0 h
def w_X5_run_J101 (g : GT) (v0 : Option Nat) (v1 : Option Nat) (v2 : Int32) (v3 : Int32) (v4 : Int32) (v5 : Int32) (v6 : Int32) (s0 : Int32) (K : Unit → AH → Prop) (E : Nat → AH → Prop) (L40 : Int32 → Int32 → AH → Prop) (h : AH) : Prop :=
  nmI (v5 + 1) fun x23 =>
  L40 x23 s0 h
def w_X5_run_J96 (g : GT) (v0 : Option Nat) (v1 : Option Nat) (v2 : Int32) (v3 : Int32) (v4 : Int32) (v5 : Int32) (v6 : Int32) (K : Unit → AH → Prop) (E : Nat → AH → Prop) (L40 : Int32 → Int32 → AH → Prop) (h : AH) : Prop :=
  w_X5_run_J101 g v0 v1 v2 v3 v4 v5 v6 1 K E L40 h
def w_X5_run_L40 (g : GT) (v0 : Option Nat) (v1 : Option Nat) (v2 : Int32) (v3 : Int32) (v4 : Int32) (v6 : Int32) (K : Unit → AH → Prop) (E : Nat → AH → Prop) (L14 : Int32 → Int32 → AH → Prop) (L40 : Int32 → Int32 → AH → Prop) (v5 : Int32) (v7 : Int32) (h : AH) : Prop :=
  gI h v1 [9] 9 fun x4 =>
  (x4 ≤ v5 → (w_X5_run_J109 g v0 v1 v2 v3 v4 v5 v6 v7 K E L14 h)) ∧ (¬ x4 ≤ v5 → (gR h v1 [9] 2 fun x14 =>
  aR h x14 7 v5 fun x15 =>
  gI h x15 [21, 22, 23, 24] 1 fun x16 =>
  (¬ x16 = v6 → (w_X5_run_J109 g v0 v1 v2 v3 v4 v5 v6 v7 K E L14 h)) ∧ (x16 = v6 → (gR h v1 [9] 2 fun x18 =>
  aR h x18 7 v5 fun x19 =>
  gR h v0 [5] 0 fun x20 =>
  letK (fun _ h =>
  (¬ v7 = 0 → (w_X5_run_J96 g v0 v1 v2 v3 v4 v5 v6 K E L40 h)) ∧ (v7 = 0 → (gR h v1 [9] 2 fun x24 =>
  aR h x24 7 v5 fun x25 =>
  letK (fun x26 h =>
  (x26 = 0 → (w_X5_run_J101 g v0 v1 v2 v3 v4 v5 v6 0 K E L40 h)) ∧ (¬ x26 = 0 → (w_X5_run_J96 g v0 v1 v2 v3 v4 v5 v6 K E L40 h))) (fun K27 => (isO h x25 21 ∧ w_X20_isRain g x25 K27 E0 h) ∨ (isO h x25 22 ∧ w_X20_isRain g x25 K27 E0 h) ∨ (isO h x25 23 ∧ w_X20_isRain g x25 K27 E0 h) ∨ (isO h x25 24 ∧ w_X24_isRain g x25 K27 E0 h))))) (fun K21 => (isO h x19 21 ∧ w_X21_happens g x19 x20 K21 E0 h) ∨ (isO h x19 22 ∧ w_X22_happens g x19 x20 K21 E0 h) ∨ (isO h x19 23 ∧ w_X23_happens g x19 x20 K21 E0 h) ∨ (isO h x19 24 ∧ w_X24_happens g x19 x20 K21 E0 h))))))
def w_X5_run_J37 (g : GT) (v0 : Option Nat) (v1 : Option Nat) (v2 : Int32) (v3 : Int32) (v4 : Int32) (v5 : Int32) (v6 : Int32) (K : Unit → AH → Prop) (E : Nat → AH → Prop) (L14 : Int32 → Int32 → AH → Prop) (h : AH) : Prop :=
  Lp2 (w_X5_run_L40 g v0 v1 v2 v3 v4 v6 K E L14) v5 0 h
def w_X5_run_L14 (g : GT) (v0 : Option Nat) (v1 : Option Nat) (v2 : Int32) (v3 : Int32) (v4 : Int32) (K : Unit → AH → Prop) (E : Nat → AH → Prop) (L14 : Int32 → Int32 → AH → Prop) (v5 : Int32) (v6 : Int32) (h : AH) : Prop :=
  (40 < v6 → (K () h)) ∧ (¬ 40 < v6 → ((¬ v6 = v2 → (w_X5_run_J37 g v0 v1 v2 v3 v4 v5 v6 K E L14 h)) ∧ (v6 = v2 → (gR h v0 [5] 0 fun x29 =>
  isO h x29 4 ∧ w_X4_change g x29 v3 v4 (fun _ h =>
  w_X5_run_J37 g v0 v1 v2 v3 v4 v5 v6 K E L14 h) E0 h))))
def w_X5_run (g : GT) (v0 : Option Nat) (v1 : Option Nat) (v2 : Int32) (v3 : Int32) (v4 : Int32) (K : Unit → AH → Prop) (E : Nat → AH → Prop) (h : AH) : Prop :=
  gR h v0 [5] 0 fun x1 =>
  isO h x1 4 ∧ w_X4_begin g x1 v1 (fun _ h =>
  Lp2 (w_X5_run_L14 g v0 v1 v2 v3 v4 K E) 0 0 h) E0 h
def w_X1_fault (g : GT) (v0 : Option Nat) (K : Int32 → AH → Prop) (E : Nat → AH → Prop) (h : AH) : Prop :=
  gI h v0 [1] 5 fun x1 =>
  K x1 h
def w_X1_where (g : GT) (v0 : Option Nat) (K : Int32 → AH → Prop) (E : Nat → AH → Prop) (h : AH) : Prop :=
  gI h v0 [1] 4 fun x1 =>
  (¬ x1 = 4 → (K (-1) h)) ∧ (x1 = 4 → (gI h v0 [1] 6 fun x3 =>
  K x3 h))
def w_X1_isUmbrella (g : GT) (v0 : Option Nat) (v1 : Int32) (K : Int32 → AH → Prop) (E : Nat → AH → Prop) (h : AH) : Prop :=
  gR h v0 [1] 3 fun x1 =>
  (x1 = none → (nz .boolean 0 (K 0 h))) ∧ (¬ x1 = none → (gR h v0 [1] 3 fun x3 =>
  gI h x3 [9] 8 fun x4 =>
  w_X1_in g v1 0 (x4 - 1) (fun x5 h =>
  (x5 = 0 → (nz .boolean 0 (K 0 h))) ∧ (¬ x5 = 0 → (nz .boolean 1 (K 1 h)))) E0 h))
def w_X16_kind (g : GT) (v0 : Option Nat) (K : Int32 → AH → Prop) (E : Nat → AH → Prop) (h : AH) : Prop :=
  K 0 h
def w_X17_kind (g : GT) (v0 : Option Nat) (K : Int32 → AH → Prop) (E : Nat → AH → Prop) (h : AH) : Prop :=
  K 1 h
def w_X18_kind (g : GT) (v0 : Option Nat) (K : Int32 → AH → Prop) (E : Nat → AH → Prop) (h : AH) : Prop :=
  K 2 h
def w_X19_kind (g : GT) (v0 : Option Nat) (K : Int32 → AH → Prop) (E : Nat → AH → Prop) (h : AH) : Prop :=
  K 3 h
def w_X1_umbrella (g : GT) (v0 : Option Nat) (v1 : Int32) (v2 : Int32) (K : Int32 → AH → Prop) (E : Nat → AH → Prop) (h : AH) : Prop :=
  isO h v0 1 ∧ w_X1_anew g v0 (fun _ h =>
  isO h v0 1 ∧ w_X1_isUmbrella g v0 v1 (fun x1 h =>
  (¬ x1 = 0 → (gR h v0 [1] 3 fun x3 =>
  gR h x3 [9] 1 fun x4 =>
  aR h x4 6 v1 fun x5 =>
  swT v2 [(0, letK (fun x7 h =>
  K x7 h) (fun K8 => (isO h x5 16 ∧ w_X16_kind g x5 K8 E0 h) ∨ (isO h x5 17 ∧ w_X17_kind g x5 K8 E0 h) ∨ (isO h x5 18 ∧ w_X18_kind g x5 K8 E0 h) ∨ (isO h x5 19 ∧ w_X19_kind g x5 K8 E0 h))),
  (1, gI h x5 [16, 17, 18, 19] 2 fun x9 =>
  K x9 h),
  (2, gI h x5 [16, 17, 18, 19] 3 fun x10 =>
  K x10 h),
  (3, gR h v0 [1] 9 fun x11 =>
  gR h x11 [4] 0 fun x12 =>
  aI h x12 0 v1 fun x13 =>
  K x13 h),
  (4, gR h v0 [1] 9 fun x14 =>
  gR h x14 [4] 1 fun x15 =>
  aI h x15 0 v1 fun x16 =>
  K x16 h)] (isO h v0 1 ∧ w_X1_no g v0 1 (fun x17 h =>
  K x17 h) E0 h))) ∧ (x1 = 0 → (isO h v0 1 ∧ w_X1_no g v0 1 (fun x18 h =>
  K x18 h) E0 h))) E0 h) E0 h
def w_X1_isPerson (g : GT) (v0 : Option Nat) (v1 : Int32) (K : Int32 → AH → Prop) (E : Nat → AH → Prop) (h : AH) : Prop :=
  gR h v0 [1] 3 fun x1 =>
  (x1 = none → (nz .boolean 0 (K 0 h))) ∧ (¬ x1 = none → (gR h v0 [1] 3 fun x3 =>
  gI h x3 [9] 7 fun x4 =>
  w_X1_in g v1 0 (x4 - 1) (fun x5 h =>
  (x5 = 0 → (nz .boolean 0 (K 0 h))) ∧ (¬ x5 = 0 → (nz .boolean 1 (K 1 h)))) E0 h))
def w_X12_sort (g : GT) (v0 : Option Nat) (K : Int32 → AH → Prop) (E : Nat → AH → Prop) (h : AH) : Prop :=
  K 0 h
def w_X13_sort (g : GT) (v0 : Option Nat) (K : Int32 → AH → Prop) (E : Nat → AH → Prop) (h : AH) : Prop :=
  K 1 h
def w_X14_sort (g : GT) (v0 : Option Nat) (K : Int32 → AH → Prop) (E : Nat → AH → Prop) (h : AH) : Prop :=
  K 2 h
def w_X4_lands_J42 (g : GT) (v0 : Option Nat) (v1 : Int32) (v3 : Int32) (s0 : Int32) (s1 : Int32) (K : Int32 → AH → Prop) (E : Nat → AH → Prop) (L4 : Int32 → Int32 → AH → Prop) (h : AH) : Prop :=
  nmI (s1 + s0) fun x7 =>
  nmI (v3 + 1) fun x8 =>
  L4 x7 x8 h
def w_X4_lands_L4 (g : GT) (v0 : Option Nat) (v1 : Int32) (K : Int32 → AH → Prop) (E : Nat → AH → Prop) (L4 : Int32 → Int32 → AH → Prop) (v2 : Int32) (v3 : Int32) (h : AH) : Prop :=
  gR h v0 [4] 2 fun x1 =>
  gI h x1 [9] 8 fun x2 =>
  (x2 ≤ v3 → (K v2 h)) ∧ (¬ x2 ≤ v3 → (gR h v0 [4] 1 fun x4 =>
  aI h x4 0 v3 fun x5 =>
  (¬ x5 = v1 → (w_X4_lands_J42 g v0 v1 v3 0 v2 K E L4 h)) ∧ (x5 = v1 → (gR h v0 [4] 2 fun x9 =>
  gR h x9 [9] 1 fun x10 =>
  aR h x10 6 v3 fun x11 =>
  gI h x11 [16, 17, 18, 19] 2 fun x12 =>
  w_X4_lands_J42 g v0 v1 v3 x12 v2 K E L4 h))))
def w_X4_lands (g : GT) (v0 : Option Nat) (v1 : Int32) (K : Int32 → AH → Prop) (E : Nat → AH → Prop) (h : AH) : Prop :=
  Lp2 (w_X4_lands_L4 g v0 v1 K E) 0 0 h
def w_X1_person (g : GT) (v0 : Option Nat) (v1 : Int32) (v2 : Int32) (K : Int32 → AH → Prop) (E : Nat → AH → Prop) (h : AH) : Prop :=
  isO h v0 1 ∧ w_X1_anew g v0 (fun _ h =>
  isO h v0 1 ∧ w_X1_isPerson g v0 v1 (fun x1 h =>
  (¬ x1 = 0 → (swT v2 [(0, gR h v0 [1] 3 fun x4 =>
  gR h x4 [9] 0 fun x5 =>
  aR h x5 5 v1 fun x6 =>
  letK (fun x7 h =>
  K x7 h) (fun K8 => (isO h x6 12 ∧ w_X12_sort g x6 K8 E0 h) ∨ (isO h x6 13 ∧ w_X13_sort g x6 K8 E0 h) ∨ (isO h x6 14 ∧ w_X14_sort g x6 K8 E0 h))),
  (1, gR h v0 [1] 9 fun x9 =>
  isO h x9 4 ∧ w_X4_has g x9 v1 (fun x10 h =>
  K x10 h) E0 h),
  (2, gR h v0 [1] 9 fun x11 =>
  isO h x11 4 ∧ w_X4_lands g x11 v1 (fun x12 h =>
  K x12 h) E0 h)] (isO h v0 1 ∧ w_X1_no g v0 1 (fun x13 h =>
  K x13 h) E0 h))) ∧ (x1 = 0 → (isO h v0 1 ∧ w_X1_no g v0 1 (fun x14 h =>
  K x14 h) E0 h))) E0 h) E0 h
def w_X9_areAlike (g : GT) (v0 : Option Nat) (v1 : Int32) (v2 : Int32) (K : Int32 → AH → Prop) (E : Nat → AH → Prop) (h : AH) : Prop :=
  (v1 = v2 → (nz .boolean 0 (K 0 h))) ∧ (¬ v1 = v2 → (gR h v0 [9] 1 fun x2 =>
  aR h x2 6 v1 fun x3 =>
  letK (fun x4 h =>
  gR h v0 [9] 1 fun x6 =>
  aR h x6 6 v2 fun x7 =>
  letK (fun x8 h =>
  (¬ x4 = x8 → (nz .boolean 0 (K 0 h))) ∧ (x4 = x8 → (gR h v0 [9] 1 fun x11 =>
  aR h x11 6 v1 fun x12 =>
  gI h x12 [16, 17, 18, 19] 3 fun x13 =>
  gR h v0 [9] 1 fun x14 =>
  aR h x14 6 v2 fun x15 =>
  gI h x15 [16, 17, 18, 19] 3 fun x16 =>
  (¬ x13 = x16 → (nz .boolean 0 (K 0 h))) ∧ (x13 = x16 → (nz .boolean 1 (K 1 h)))))) (fun K9 => (isO h x7 16 ∧ w_X16_kind g x7 K9 E0 h) ∨ (isO h x7 17 ∧ w_X17_kind g x7 K9 E0 h) ∨ (isO h x7 18 ∧ w_X18_kind g x7 K9 E0 h) ∨ (isO h x7 19 ∧ w_X19_kind g x7 K9 E0 h))) (fun K5 => (isO h x3 16 ∧ w_X16_kind g x3 K5 E0 h) ∨ (isO h x3 17 ∧ w_X17_kind g x3 K5 E0 h) ∨ (isO h x3 18 ∧ w_X18_kind g x3 K5 E0 h) ∨ (isO h x3 19 ∧ w_X19_kind g x3 K5 E0 h))))
def w_X1_alike_J53 (g : GT) (v0 : Option Nat) (v1 : Int32) (v3 : Int32) (s0 : Int32) (s1 : Int32) (K : Int32 → AH → Prop) (E : Nat → AH → Prop) (L22 : Int32 → Int32 → AH → Prop) (h : AH) : Prop :=
  nmI (s1 ||| s0) fun x9 =>
  nmI (v3 + 1) fun x10 =>
  L22 x9 x10 h
def w_X1_alike_L22 (g : GT) (v0 : Option Nat) (v1 : Int32) (K : Int32 → AH → Prop) (E : Nat → AH → Prop) (L22 : Int32 → Int32 → AH → Prop) (v2 : Int32) (v3 : Int32) (h : AH) : Prop :=
  gR h v0 [1] 3 fun x3 =>
  gI h x3 [9] 8 fun x4 =>
  (x4 ≤ v3 → (K v2 h)) ∧ (¬ x4 ≤ v3 → (gR h v0 [1] 3 fun x6 =>
  isO h x6 9 ∧ w_X9_areAlike g x6 v1 v3 (fun x7 h =>
  (x7 = 0 → (w_X1_alike_J53 g v0 v1 v3 0 v2 K E L22 h)) ∧ (¬ x7 = 0 → (w_X1_alike_J53 g v0 v1 v3 (1 <<< (v3 &&& 31)) v2 K E L22 h))) E0 h))
def w_X1_alike (g : GT) (v0 : Option Nat) (v1 : Int32) (K : Int32 → AH → Prop) (E : Nat → AH → Prop) (h : AH) : Prop :=
  isO h v0 1 ∧ w_X1_anew g v0 (fun _ h =>
  isO h v0 1 ∧ w_X1_isUmbrella g v0 v1 (fun x1 h =>
  (¬ x1 = 0 → (Lp2 (w_X1_alike_L22 g v0 v1 K E) 0 0 h)) ∧ (x1 = 0 → (isO h v0 1 ∧ w_X1_no g v0 1 (fun x11 h =>
  K x11 h) E0 h))) E0 h) E0 h
def w_X4_right_J49 (g : GT) (v0 : Option Nat) (v2 : Int32) (s0 : Int32) (s1 : Int32) (K : Int32 → AH → Prop) (E : Nat → AH → Prop) (L4 : Int32 → Int32 → AH → Prop) (h : AH) : Prop :=
  nmI (s1 ||| s0) fun x7 =>
  nmI (v2 + 1) fun x8 =>
  L4 x7 x8 h
def w_X4_right_J48 (g : GT) (v0 : Option Nat) (v2 : Int32) (s0 : Int32) (K : Int32 → AH → Prop) (E : Nat → AH → Prop) (L4 : Int32 → Int32 → AH → Prop) (h : AH) : Prop :=
  w_X4_right_J49 g v0 v2 0 s0 K E L4 h
def w_X4_right_L4 (g : GT) (v0 : Option Nat) (K : Int32 → AH → Prop) (E : Nat → AH → Prop) (L4 : Int32 → Int32 → AH → Prop) (v1 : Int32) (v2 : Int32) (h : AH) : Prop :=
  gR h v0 [4] 2 fun x1 =>
  gI h x1 [9] 8 fun x2 =>
  (x2 ≤ v2 → (K v1 h)) ∧ (¬ x2 ≤ v2 → (gR h v0 [4] 1 fun x4 =>
  aI h x4 0 v2 fun x5 =>
  (x5 = (-2) → (w_X4_right_J48 g v0 v2 v1 K E L4 h)) ∧ (¬ x5 = (-2) → (gR h v0 [4] 1 fun x9 =>
  aI h x9 0 v2 fun x10 =>
  gR h v0 [4] 0 fun x11 =>
  aI h x11 0 v2 fun x12 =>
  (¬ x10 = x12 → (w_X4_right_J48 g v0 v2 v1 K E L4 h)) ∧ (x10 = x12 → (w_X4_right_J49 g v0 v2 (1 <<< (v2 &&& 31)) v1 K E L4 h))))))
def w_X4_right (g : GT) (v0 : Option Nat) (K : Int32 → AH → Prop) (E : Nat → AH → Prop) (h : AH) : Prop :=
  Lp2 (w_X4_right_L4 g v0 K E) 0 0 h
def w_X1_right (g : GT) (v0 : Option Nat) (K : Int32 → AH → Prop) (E : Nat → AH → Prop) (h : AH) : Prop :=
  isO h v0 1 ∧ w_X1_anew g v0 (fun _ h =>
  gR h v0 [1] 3 fun x1 =>
  (¬ x1 = none → (gR h v0 [1] 9 fun x3 =>
  isO h x3 4 ∧ w_X4_right g x3 (fun x4 h =>
  K x4 h) E0 h)) ∧ (x1 = none → (isO h v0 1 ∧ w_X1_no g v0 1 (fun x5 h =>
  K x5 h) E0 h))) E0 h
def w_X1_richest_J64 (g : GT) (v0 : Option Nat) (v1 : Int32) (v2 : Int32) (K : Int32 → AH → Prop) (E : Nat → AH → Prop) (L22 : Int32 → Int32 → AH → Prop) (h : AH) : Prop :=
  nmI (v2 + 1) fun x12 =>
  L22 v1 x12 h
def w_X1_richest_J59 (g : GT) (v0 : Option Nat) (v1 : Int32) (v2 : Int32) (s0 : Int32) (s1 : Int32) (K : Int32 → AH → Prop) (E : Nat → AH → Prop) (L22 : Int32 → Int32 → AH → Prop) (h : AH) : Prop :=
  (s1 ≤ s0 → (w_X1_richest_J64 g v0 v1 v2 K E L22 h)) ∧ (¬ s1 ≤ s0 → (w_X1_richest_J64 g v0 v2 v2 K E L22 h))
def w_X1_richest_L22 (g : GT) (v0 : Option Nat) (K : Int32 → AH → Prop) (E : Nat → AH → Prop) (L22 : Int32 → Int32 → AH → Prop) (v1 : Int32) (v2 : Int32) (h : AH) : Prop :=
  gR h v0 [1] 3 fun x3 =>
  gI h x3 [9] 7 fun x4 =>
  (x4 ≤ v2 → (K v1 h)) ∧ (¬ x4 ≤ v2 → (gR h v0 [1] 9 fun x6 =>
  isO h x6 4 ∧ w_X4_lands g x6 v2 (fun x7 h =>
  (¬ v1 = (-2) → (gR h v0 [1] 9 fun x9 =>
  isO h x9 4 ∧ w_X4_lands g x9 v1 (fun x10 h =>
  w_X1_richest_J59 g v0 v1 v2 x10 x7 K E L22 h) E0 h)) ∧ (v1 = (-2) → (w_X1_richest_J59 g v0 v1 v2 0 x7 K E L22 h))) E0 h))
def w_X1_richest (g : GT) (v0 : Option Nat) (K : Int32 → AH → Prop) (E : Nat → AH → Prop) (h : AH) : Prop :=
  isO h v0 1 ∧ w_X1_anew g v0 (fun _ h =>
  gR h v0 [1] 3 fun x1 =>
  (¬ x1 = none → (Lp2 (w_X1_richest_L22 g v0 K E) (-2) 0 h)) ∧ (x1 = none → (isO h v0 1 ∧ w_X1_no g v0 1 (fun x13 h =>
  K x13 h) E0 h))) E0 h
def w_X1_dayWhy (g : GT) (v0 : Option Nat) (v1 : Int32) (v2 : Int32) (K : Int32 → AH → Prop) (E : Nat → AH → Prop) (h : AH) : Prop :=
  (¬ v1 = 0 → (w_X1_in g v2 0 40 (fun x2 h =>
  (x2 = 0 → (K 2 h)) ∧ (¬ x2 = 0 → (K 0 h))) E0 h)) ∧ (v1 = 0 → (K 1 h))
def w_X5_holder (g : GT) (v0 : Option Nat) (v1 : Int32) (v2 : Int32) (K : Int32 → AH → Prop) (E : Nat → AH → Prop) (h : AH) : Prop :=
  gR h v0 [5] 1 fun x1 =>
  aI h x1 0 ((5 * v2) + v1) fun x2 =>
  K x2 h
def w_X1_hasIt (g : GT) (v0 : Option Nat) (v1 : Int32) (v2 : Int32) (K : Int32 → AH → Prop) (E : Nat → AH → Prop) (h : AH) : Prop :=
  isO h v0 1 ∧ w_X1_anew g v0 (fun _ h =>
  isO h v0 1 ∧ w_X1_isUmbrella g v0 v1 (fun x1 h =>
  isO h v0 1 ∧ w_X1_dayWhy g v0 x1 v2 (fun x2 h =>
  (x2 = 0 → (gR h v0 [1] 12 fun x4 =>
  isO h x4 5 ∧ w_X5_holder g x4 v1 v2 (fun x5 h =>
  K x5 h) E0 h)) ∧ (¬ x2 = 0 → (isO h v0 1 ∧ w_X1_no g v0 x2 (fun x6 h =>
  K x6 h) E0 h))) E0 h) E0 h) E0 h
def w_X5_title (g : GT) (v0 : Option Nat) (v1 : Int32) (v2 : Int32) (K : Int32 → AH → Prop) (E : Nat → AH → Prop) (h : AH) : Prop :=
  gR h v0 [5] 2 fun x1 =>
  aI h x1 0 ((5 * v2) + v1) fun x2 =>
  K x2 h
def w_X1_titleOf (g : GT) (v0 : Option Nat) (v1 : Int32) (v2 : Int32) (K : Int32 → AH → Prop) (E : Nat → AH → Prop) (h : AH) : Prop :=
  isO h v0 1 ∧ w_X1_anew g v0 (fun _ h =>
  isO h v0 1 ∧ w_X1_isUmbrella g v0 v1 (fun x1 h =>
  isO h v0 1 ∧ w_X1_dayWhy g v0 x1 v2 (fun x2 h =>
  (x2 = 0 → (gR h v0 [1] 12 fun x4 =>
  isO h x4 5 ∧ w_X5_title g x4 v1 v2 (fun x5 h =>
  K x5 h) E0 h)) ∧ (¬ x2 = 0 → (isO h v0 1 ∧ w_X1_no g v0 x2 (fun x6 h =>
  K x6 h) E0 h))) E0 h) E0 h) E0 h
def w_X1_landsBy_J49 (g : GT) (v0 : Option Nat) (v1 : Int32) (v2 : Int32) (v4 : Int32) (s0 : Int32) (s1 : Int32) (K : Int32 → AH → Prop) (E : Nat → AH → Prop) (L5 : Int32 → Int32 → AH → Prop) (h : AH) : Prop :=
  nmI (s1 + s0) fun x7 =>
  nmI (v4 + 1) fun x8 =>
  L5 x7 x8 h
def w_X1_landsBy_L5 (g : GT) (v0 : Option Nat) (v1 : Int32) (v2 : Int32) (K : Int32 → AH → Prop) (E : Nat → AH → Prop) (L5 : Int32 → Int32 → AH → Prop) (v3 : Int32) (v4 : Int32) (h : AH) : Prop :=
  gR h v0 [1] 3 fun x1 =>
  gI h x1 [9] 8 fun x2 =>
  (x2 ≤ v4 → (K v3 h)) ∧ (¬ x2 ≤ v4 → (gR h v0 [1] 12 fun x4 =>
  isO h x4 5 ∧ w_X5_title g x4 v4 v2 (fun x5 h =>
  (¬ x5 = v1 → (w_X1_landsBy_J49 g v0 v1 v2 v4 0 v3 K E L5 h)) ∧ (x5 = v1 → (gR h v0 [1] 3 fun x9 =>
  gR h x9 [9] 1 fun x10 =>
  aR h x10 6 v4 fun x11 =>
  gI h x11 [16, 17, 18, 19] 2 fun x12 =>
  w_X1_landsBy_J49 g v0 v1 v2 v4 x12 v3 K E L5 h))) E0 h))
def w_X1_landsBy (g : GT) (v0 : Option Nat) (v1 : Int32) (v2 : Int32) (K : Int32 → AH → Prop) (E : Nat → AH → Prop) (h : AH) : Prop :=
  Lp2 (w_X1_landsBy_L5 g v0 v1 v2 K E) 0 0 h
def w_X1_landsOf (g : GT) (v0 : Option Nat) (v1 : Int32) (v2 : Int32) (K : Int32 → AH → Prop) (E : Nat → AH → Prop) (h : AH) : Prop :=
  isO h v0 1 ∧ w_X1_anew g v0 (fun _ h =>
  isO h v0 1 ∧ w_X1_isPerson g v0 v1 (fun x1 h =>
  isO h v0 1 ∧ w_X1_dayWhy g v0 x1 v2 (fun x2 h =>
  (x2 = 0 → (isO h v0 1 ∧ w_X1_landsBy g v0 v1 v2 (fun x4 h =>
  K x4 h) E0 h)) ∧ (¬ x2 = 0 → (isO h v0 1 ∧ w_X1_no g v0 x2 (fun x5 h =>
  K x5 h) E0 h))) E0 h) E0 h) E0 h
def w_X1_lapsed_J17 (g : GT) (v0 : Option Nat) (v1 : Int32) (s0 : Int32) (s1 : Option Nat) (K : Int32 → AH → Prop) (E : Nat → AH → Prop) (h : AH) : Prop :=
  isO h s1 1 ∧ w_X1_dayWhy g s1 s0 v1 (fun x3 h =>
  (x3 = 0 → (isO h v0 1 ∧ w_X1_landsBy g v0 (-2) v1 (fun x5 h =>
  K x5 h) E0 h)) ∧ (¬ x3 = 0 → (isO h v0 1 ∧ w_X1_no g v0 x3 (fun x6 h =>
  K x6 h) E0 h))) E0 h
def w_X1_lapsed (g : GT) (v0 : Option Nat) (v1 : Int32) (K : Int32 → AH → Prop) (E : Nat → AH → Prop) (h : AH) : Prop :=
  isO h v0 1 ∧ w_X1_anew g v0 (fun _ h =>
  gR h v0 [1] 3 fun x1 =>
  (x1 = none → (w_X1_lapsed_J17 g v0 v1 0 v0 K E h)) ∧ (¬ x1 = none → (w_X1_lapsed_J17 g v0 v1 1 v0 K E h))) E0 h
def w_X1_passed_J71 (g : GT) (v0 : Option Nat) (v1 : Int32) (v4 : Int32) (s0 : Int32) (s1 : Int32) (K : Int32 → AH → Prop) (E : Nat → AH → Prop) (L44 : Int32 → Int32 → Int32 → AH → Prop) (h : AH) : Prop :=
  nmI (s1 + s0) fun x12 =>
  gR h v0 [1] 12 fun x13 =>
  isO h x13 5 ∧ w_X5_title g x13 v1 v4 (fun x14 h =>
  nmI (v4 + 1) fun x15 =>
  L44 x14 x12 x15 h) E0 h
def w_X1_passed_L44 (g : GT) (v0 : Option Nat) (v1 : Int32) (K : Int32 → AH → Prop) (E : Nat → AH → Prop) (L44 : Int32 → Int32 → Int32 → AH → Prop) (v2 : Int32) (v3 : Int32) (v4 : Int32) (h : AH) : Prop :=
  (40 < v4 → (K v3 h)) ∧ (¬ 40 < v4 → (gR h v0 [1] 12 fun x9 =>
  isO h x9 5 ∧ w_X5_title g x9 v1 v4 (fun x10 h =>
  (¬ x10 = v2 → (w_X1_passed_J71 g v0 v1 v4 1 v3 K E L44 h)) ∧ (x10 = v2 → (w_X1_passed_J71 g v0 v1 v4 0 v3 K E L44 h))) E0 h))
def w_X1_passed (g : GT) (v0 : Option Nat) (v1 : Int32) (K : Int32 → AH → Prop) (E : Nat → AH → Prop) (h : AH) : Prop :=
  isO h v0 1 ∧ w_X1_anew g v0 (fun _ h =>
  isO h v0 1 ∧ w_X1_isUmbrella g v0 v1 (fun x1 h =>
  (¬ x1 = 0 → (gR h v0 [1] 11 fun x3 =>
  gR h v0 [1] 3 fun x4 =>
  isO h x3 4 ∧ w_X4_begin g x3 x4 (fun _ h =>
  gR h v0 [1] 11 fun x5 =>
  gR h x5 [4] 1 fun x6 =>
  aI h x6 0 v1 fun x7 =>
  Lp3 (w_X1_passed_L44 g v0 v1 K E) x7 0 0 h) E0 h)) ∧ (x1 = 0 → (isO h v0 1 ∧ w_X1_no g v0 1 (fun x16 h =>
  K x16 h) E0 h))) E0 h) E0 h
def w_X5_wrongly_L2 (g : GT) (v0 : Option Nat) (v1 : Option Nat) (K : Int32 → AH → Prop) (E : Nat → AH → Prop) (L2 : Int32 → AH → Prop) (v2 : Int32) (h : AH) : Prop :=
  gI h v1 [9] 10 fun x1 =>
  (x1 ≤ v2 → (K (-2) h)) ∧ (¬ x1 ≤ v2 → (gR h v1 [9] 3 fun x3 =>
  aR h x3 8 v2 fun x4 =>
  gI h x4 [25] 1 fun x5 =>
  gR h v1 [9] 3 fun x6 =>
  aR h x6 8 v2 fun x7 =>
  gI h x7 [25] 2 fun x8 =>
  isO h v0 5 ∧ w_X5_title g v0 x5 x8 (fun x9 h =>
  gR h v1 [9] 3 fun x10 =>
  aR h x10 8 v2 fun x11 =>
  gI h x11 [25] 0 fun x12 =>
  (x9 = x12 → (nmI (v2 + 1) fun x14 =>
  L2 x14 h)) ∧ (¬ x9 = x12 → (K v2 h))) E0 h))
def w_X5_wrongly (g : GT) (v0 : Option Nat) (v1 : Option Nat) (K : Int32 → AH → Prop) (E : Nat → AH → Prop) (h : AH) : Prop :=
  Lp1 (w_X5_wrongly_L2 g v0 v1 K E) 0 h
def w_X1_judge (g : GT) (v0 : Option Nat) (K : Int32 → AH → Prop) (E : Nat → AH → Prop) (h : AH) : Prop :=
  isO h v0 1 ∧ w_X1_anew g v0 (fun _ h =>
  gR h v0 [1] 3 fun x1 =>
  (¬ x1 = none → (gR h v0 [1] 12 fun x3 =>
  gR h v0 [1] 3 fun x4 =>
  isO h x3 5 ∧ w_X5_wrongly g x3 x4 (fun x5 h =>
  K x5 h) E0 h)) ∧ (x1 = none → (isO h v0 1 ∧ w_X1_no g v0 1 (fun x6 h =>
  K x6 h) E0 h))) E0 h
def w_X1_way_J13 (g : GT) (v0 : Option Nat) (K : Unit → AH → Prop) (E : Nat → AH → Prop) (h : AH) : Prop :=
  gI h v0 [1] 18 fun x3 =>
  pV g h v0 [1] 18 (.int (x3 + 1)) fun h =>
  K () h
def w_X1_way (g : GT) (v0 : Option Nat) (v1 : Int32) (v2 : Int32) (K : Unit → AH → Prop) (E : Nat → AH → Prop) (h : AH) : Prop :=
  gI h v0 [1] 18 fun x1 =>
  (¬ x1 = v2 → (w_X1_way_J13 g v0 K E h)) ∧ (x1 = v2 → (pV g h v0 [1] 19 (.int v1) fun h =>
  w_X1_way_J13 g v0 K E h))
def w_X1_seekWays_J130 (g : GT) (v0 : Option Nat) (v1 : Int32) (v2 : Int32) (v3 : Int32) (v4 : Int32) (K : Unit → AH → Prop) (E : Nat → AH → Prop) (L54 : Int32 → AH → Prop) (h : AH) : Prop :=
  nmI (v4 + 1) fun x24 =>
  L54 x24 h
def w_X1_seekWays_L54 (g : GT) (v0 : Option Nat) (v1 : Int32) (v2 : Int32) (v3 : Int32) (K : Unit → AH → Prop) (E : Nat → AH → Prop) (L38 : Int32 → AH → Prop) (L54 : Int32 → AH → Prop) (v4 : Int32) (h : AH) : Prop :=
  gR h v0 [1] 3 fun x11 =>
  gI h x11 [9] 8 fun x12 =>
  (x12 ≤ v4 → (nmI (v3 + 1) fun x14 =>
  L38 x14 h)) ∧ (¬ x12 ≤ v4 → (gR h v0 [1] 3 fun x15 =>
  isO h x15 9 ∧ w_X9_areAlike g x15 v3 v4 (fun x16 h =>
  (¬ x16 = 0 → (gR h v0 [1] 13 fun x18 =>
  gR h v0 [1] 3 fun x19 =>
  isO h x18 5 ∧ w_X5_run g x18 x19 v2 v3 v4 (fun _ h =>
  gR h v0 [1] 13 fun x20 =>
  gR h v0 [1] 3 fun x21 =>
  isO h x20 5 ∧ w_X5_wrongly g x20 x21 (fun x22 h =>
  (¬ x22 = (-2) → (w_X1_seekWays_J130 g v0 v1 v2 v3 v4 K E L54 h)) ∧ (x22 = (-2) → (isO h v0 1 ∧ w_X1_way g v0 (((100 * v2) + (10 * v3)) + v4) v1 (fun _ h =>
  w_X1_seekWays_J130 g v0 v1 v2 v3 v4 K E L54 h) E0 h))) E0 h) E0 h)) ∧ (x16 = 0 → (w_X1_seekWays_J130 g v0 v1 v2 v3 v4 K E L54 h))) E0 h))
def w_X1_seekWays_L38 (g : GT) (v0 : Option Nat) (v1 : Int32) (v2 : Int32) (K : Unit → AH → Prop) (E : Nat → AH → Prop) (L30 : Int32 → AH → Prop) (L38 : Int32 → AH → Prop) (v3 : Int32) (h : AH) : Prop :=
  gR h v0 [1] 3 fun x6 =>
  gI h x6 [9] 8 fun x7 =>
  (x7 ≤ v3 → (nmI (v2 + 1) fun x9 =>
  L30 x9 h)) ∧ (¬ x7 ≤ v3 → (nmI (v3 + 1) fun x10 =>
  Lp1 (w_X1_seekWays_L54 g v0 v1 v2 v3 K E L38) x10 h))
def w_X1_seekWays_L30 (g : GT) (v0 : Option Nat) (v1 : Int32) (K : Unit → AH → Prop) (E : Nat → AH → Prop) (L30 : Int32 → AH → Prop) (v2 : Int32) (h : AH) : Prop :=
  (40 < v2 → (K () h)) ∧ (¬ 40 < v2 → (Lp1 (w_X1_seekWays_L38 g v0 v1 v2 K E L30) 0 h))
def w_X1_seekWays_J28 (g : GT) (v0 : Option Nat) (v1 : Int32) (K : Unit → AH → Prop) (E : Nat → AH → Prop) (h : AH) : Prop :=
  Lp1 (w_X1_seekWays_L30 g v0 v1 K E) 0 h
def w_X1_seekWays (g : GT) (v0 : Option Nat) (v1 : Int32) (K : Unit → AH → Prop) (E : Nat → AH → Prop) (h : AH) : Prop :=
  pV g h v0 [1] 18 (.int 0) fun h =>
  gR h v0 [1] 12 fun x1 =>
  gR h v0 [1] 3 fun x2 =>
  isO h x1 5 ∧ w_X5_wrongly g x1 x2 (fun x3 h =>
  (¬ x3 = (-2) → (w_X1_seekWays_J28 g v0 v1 K E h)) ∧ (x3 = (-2) → (isO h v0 1 ∧ w_X1_way g v0 (-2) v1 (fun _ h =>
  w_X1_seekWays_J28 g v0 v1 K E h) E0 h))) E0 h
def w_X1_ways (g : GT) (v0 : Option Nat) (K : Int32 → AH → Prop) (E : Nat → AH → Prop) (h : AH) : Prop :=
  isO h v0 1 ∧ w_X1_anew g v0 (fun _ h =>
  gR h v0 [1] 3 fun x1 =>
  (¬ x1 = none → (isO h v0 1 ∧ w_X1_seekWays g v0 (-1) (fun _ h =>
  gI h v0 [1] 18 fun x3 =>
  K x3 h) E0 h)) ∧ (x1 = none → (isO h v0 1 ∧ w_X1_no g v0 1 (fun x4 h =>
  K x4 h) E0 h))) E0 h
def w_X1_wayAt (g : GT) (v0 : Option Nat) (v1 : Int32) (K : Int32 → AH → Prop) (E : Nat → AH → Prop) (h : AH) : Prop :=
  isO h v0 1 ∧ w_X1_anew g v0 (fun _ h =>
  gR h v0 [1] 3 fun x1 =>
  (¬ x1 = none → (isO h v0 1 ∧ w_X1_seekWays g v0 v1 (fun _ h =>
  gI h v0 [1] 18 fun x3 =>
  w_X1_in g v1 0 (x3 - 1) (fun x4 h =>
  (x4 = 0 → (isO h v0 1 ∧ w_X1_no g v0 1 (fun x6 h =>
  K x6 h) E0 h)) ∧ (¬ x4 = 0 → (gI h v0 [1] 19 fun x7 =>
  K x7 h))) E0 h) E0 h)) ∧ (x1 = none → (isO h v0 1 ∧ w_X1_no g v0 1 (fun x8 h =>
  K x8 h) E0 h))) E0 h
def w_X1_longest_J84 (g : GT) (v0 : Option Nat) (v1 : Int32) (v2 : Int32) (v4 : Int32) (s0 : Int32) (K : Int32 → AH → Prop) (E : Nat → AH → Prop) (L25 : Int32 → Int32 → Int32 → AH → Prop) (h : AH) : Prop :=
  nmI (if v2 < s0 then s0 else v2) fun x8 =>
  nmI (v4 + 1) fun x9 =>
  L25 x8 s0 x9 h
def w_X1_longest_J83 (g : GT) (v0 : Option Nat) (v1 : Int32) (v2 : Int32) (v4 : Int32) (K : Int32 → AH → Prop) (E : Nat → AH → Prop) (L25 : Int32 → Int32 → Int32 → AH → Prop) (h : AH) : Prop :=
  w_X1_longest_J84 g v0 v1 v2 v4 1 K E L25 h
def w_X1_longest_L25 (g : GT) (v0 : Option Nat) (v1 : Int32) (K : Int32 → AH → Prop) (E : Nat → AH → Prop) (L25 : Int32 → Int32 → Int32 → AH → Prop) (v2 : Int32) (v3 : Int32) (v4 : Int32) (h : AH) : Prop :=
  (40 < v4 → (K v2 h)) ∧ (¬ 40 < v4 → (gR h v0 [1] 12 fun x4 =>
  isO h x4 5 ∧ w_X5_title g x4 v1 v4 (fun x5 h =>
  (¬ x5 = (-2) → ((v4 ≤ 0 → (w_X1_longest_J83 g v0 v1 v2 v4 K E L25 h)) ∧ (¬ v4 ≤ 0 → (gR h v0 [1] 12 fun x10 =>
  isO h x10 5 ∧ w_X5_title g x10 v1 (v4 - 1) (fun x11 h =>
  (¬ x11 = x5 → (w_X1_longest_J83 g v0 v1 v2 v4 K E L25 h)) ∧ (x11 = x5 → (w_X1_longest_J84 g v0 v1 v2 v4 (v3 + 1) K E L25 h))) E0 h)))) ∧ (x5 = (-2) → (w_X1_longest_J84 g v0 v1 v2 v4 0 K E L25 h))) E0 h))
def w_X1_longest (g : GT) (v0 : Option Nat) (v1 : Int32) (K : Int32 → AH → Prop) (E : Nat → AH → Prop) (h : AH) : Prop :=
  isO h v0 1 ∧ w_X1_anew g v0 (fun _ h =>
  isO h v0 1 ∧ w_X1_isUmbrella g v0 v1 (fun x1 h =>
  (¬ x1 = 0 → (Lp3 (w_X1_longest_L25 g v0 v1 K E) 0 0 0 h)) ∧ (x1 = 0 → (isO h v0 1 ∧ w_X1_no g v0 1 (fun x13 h =>
  K x13 h) E0 h))) E0 h) E0 h
def w_X1_worstDay_J46 (g : GT) (v0 : Option Nat) (v1 : Int32) (v2 : Int32) (K : Int32 → AH → Prop) (E : Nat → AH → Prop) (L21 : Int32 → Int32 → AH → Prop) (h : AH) : Prop :=
  nmI (v2 + 1) fun x7 =>
  L21 v1 x7 h
def w_X1_worstDay_L21 (g : GT) (v0 : Option Nat) (K : Int32 → AH → Prop) (E : Nat → AH → Prop) (L21 : Int32 → Int32 → AH → Prop) (v1 : Int32) (v2 : Int32) (h : AH) : Prop :=
  (40 < v2 → (K v1 h)) ∧ (¬ 40 < v2 → (isO h v0 1 ∧ w_X1_landsBy g v0 (-2) v2 (fun x4 h =>
  isO h v0 1 ∧ w_X1_landsBy g v0 (-2) v1 (fun x5 h =>
  (x4 ≤ x5 → (w_X1_worstDay_J46 g v0 v1 v2 K E L21 h)) ∧ (¬ x4 ≤ x5 → (w_X1_worstDay_J46 g v0 v2 v2 K E L21 h))) E0 h) E0 h))
def w_X1_worstDay (g : GT) (v0 : Option Nat) (K : Int32 → AH → Prop) (E : Nat → AH → Prop) (h : AH) : Prop :=
  isO h v0 1 ∧ w_X1_anew g v0 (fun _ h =>
  gR h v0 [1] 3 fun x1 =>
  (¬ x1 = none → (Lp2 (w_X1_worstDay_L21 g v0 K E) 0 1 h)) ∧ (x1 = none → (isO h v0 1 ∧ w_X1_no g v0 1 (fun x8 h =>
  K x8 h) E0 h))) E0 h
def w_X1_owing_J25 (g : GT) (v0 : Option Nat) (K : Int32 → AH → Prop) (E : Nat → AH → Prop) (h : AH) : Prop :=
  isO h v0 1 ∧ w_X1_no g v0 1 (fun x3 h =>
  K x3 h) E0 h
def w_X1_owing_J85 (g : GT) (v0 : Option Nat) (v1 : Int32) (v2 : Int32) (v4 : Int32) (s0 : Int32) (s1 : Int32) (K : Int32 → AH → Prop) (E : Nat → AH → Prop) (L36 : Int32 → Int32 → AH → Prop) (h : AH) : Prop :=
  nmI (s1 ||| s0) fun x14 =>
  nmI (v4 + 1) fun x15 =>
  L36 x14 x15 h
def w_X1_owing_J84 (g : GT) (v0 : Option Nat) (v1 : Int32) (v2 : Int32) (v4 : Int32) (s0 : Int32) (K : Int32 → AH → Prop) (E : Nat → AH → Prop) (L36 : Int32 → Int32 → AH → Prop) (h : AH) : Prop :=
  w_X1_owing_J85 g v0 v1 v2 v4 0 s0 K E L36 h
def w_X1_owing_L36 (g : GT) (v0 : Option Nat) (v1 : Int32) (v2 : Int32) (K : Int32 → AH → Prop) (E : Nat → AH → Prop) (L36 : Int32 → Int32 → AH → Prop) (v3 : Int32) (v4 : Int32) (h : AH) : Prop :=
  gR h v0 [1] 3 fun x7 =>
  gI h x7 [9] 8 fun x8 =>
  (x8 ≤ v4 → (K v3 h)) ∧ (¬ x8 ≤ v4 → (gR h v0 [1] 9 fun x10 =>
  gR h x10 [4] 1 fun x11 =>
  aI h x11 0 v4 fun x12 =>
  (¬ x12 = v1 → (w_X1_owing_J84 g v0 v1 v2 v4 v3 K E L36 h)) ∧ (x12 = v1 → (gR h v0 [1] 9 fun x16 =>
  gR h x16 [4] 0 fun x17 =>
  aI h x17 0 v4 fun x18 =>
  (¬ x18 = v2 → (w_X1_owing_J84 g v0 v1 v2 v4 v3 K E L36 h)) ∧ (x18 = v2 → (w_X1_owing_J85 g v0 v1 v2 v4 (1 <<< (v4 &&& 31)) v3 K E L36 h))))))
def w_X1_owing (g : GT) (v0 : Option Nat) (v1 : Int32) (v2 : Int32) (K : Int32 → AH → Prop) (E : Nat → AH → Prop) (h : AH) : Prop :=
  isO h v0 1 ∧ w_X1_anew g v0 (fun _ h =>
  isO h v0 1 ∧ w_X1_isPerson g v0 v1 (fun x1 h =>
  (x1 = 0 → (w_X1_owing_J25 g v0 K E h)) ∧ (¬ x1 = 0 → (isO h v0 1 ∧ w_X1_isPerson g v0 v2 (fun x4 h =>
  (x4 = 0 → (w_X1_owing_J25 g v0 K E h)) ∧ (¬ x4 = 0 → ((¬ v1 = v2 → (Lp2 (w_X1_owing_L36 g v0 v1 v2 K E) 0 0 h)) ∧ (v1 = v2 → (w_X1_owing_J25 g v0 K E h))))) E0 h))) E0 h) E0 h
def w_X4_become (g : GT) (v0 : Option Nat) (v1 : Option Nat) (K : Unit → AH → Prop) (E : Nat → AH → Prop) (h : AH) : Prop :=
  gR h v1 [4] 2 fun x1 =>
  pV g h v0 [4] 2 (va_rf x1) fun h =>
  gI h v1 [4] 3 fun x2 =>
  pV g h v0 [4] 3 (.int x2) fun h =>
  gR h v1 [4] 0 fun x3 =>
  gR h v0 [4] 0 fun x4 =>
  cI g h x3 0 x4 0 5 fun h =>
  gR h v1 [4] 1 fun x5 =>
  gR h v0 [4] 1 fun x6 =>
  cI g h x5 0 x6 0 5 fun h =>
  K () h
def w_X1_change (g : GT) (v0 : Option Nat) (v1 : Int32) (v2 : Int32) (K : Int32 → AH → Prop) (E : Nat → AH → Prop) (h : AH) : Prop :=
  isO h v0 1 ∧ w_X1_anew g v0 (fun _ h =>
  isO h v0 1 ∧ w_X1_isPerson g v0 v1 (fun x1 h =>
  (¬ x1 = 0 → (gR h v0 [1] 11 fun x3 =>
  gR h v0 [1] 9 fun x4 =>
  isO h x3 4 ∧ w_X4_become g x3 x4 (fun _ h =>
  gR h v0 [1] 11 fun x5 =>
  isO h x5 4 ∧ w_X4_ends g x5 v2 (fun _ h =>
  gR h v0 [1] 11 fun x6 =>
  isO h x6 4 ∧ w_X4_lands g x6 v1 (fun x7 h =>
  gR h v0 [1] 9 fun x8 =>
  isO h x8 4 ∧ w_X4_lands g x8 v1 (fun x9 h =>
  K (x7 - x9) h) E0 h) E0 h) E0 h) E0 h)) ∧ (x1 = 0 → (pV g h v0 [1] 4 (.int 1) fun h =>
  K (-1000) h))) E0 h) E0 h
def w_X1_lapsesIn_L31 (g : GT) (v0 : Option Nat) (v1 : Int32) (K : Int32 → AH → Prop) (E : Nat → AH → Prop) (L31 : Int32 → AH → Prop) (v2 : Int32) (h : AH) : Prop :=
  (30 < v2 → (K (-2) h)) ∧ (¬ 30 < v2 → (gR h v0 [1] 11 fun x6 =>
  gR h x6 [4] 1 fun x7 =>
  aI h x7 0 v1 fun x8 =>
  (¬ x8 = (-2) → (gR h v0 [1] 11 fun x10 =>
  isO h x10 4 ∧ w_X4_ends g x10 0 (fun _ h =>
  nmI (v2 + 1) fun x11 =>
  L31 x11 h) E0 h)) ∧ (x8 = (-2) → (K v2 h))))
def w_X1_lapsesIn (g : GT) (v0 : Option Nat) (v1 : Int32) (K : Int32 → AH → Prop) (E : Nat → AH → Prop) (h : AH) : Prop :=
  isO h v0 1 ∧ w_X1_anew g v0 (fun _ h =>
  isO h v0 1 ∧ w_X1_isUmbrella g v0 v1 (fun x1 h =>
  (¬ x1 = 0 → (gR h v0 [1] 11 fun x3 =>
  gR h v0 [1] 9 fun x4 =>
  isO h x3 4 ∧ w_X4_become g x3 x4 (fun _ h =>
  Lp1 (w_X1_lapsesIn_L31 g v0 v1 K E) 0 h) E0 h)) ∧ (x1 = 0 → (isO h v0 1 ∧ w_X1_no g v0 1 (fun x12 h =>
  K x12 h) E0 h))) E0 h) E0 h
def w_X1_arePeople (g : GT) (v0 : Option Nat) (v1 : Int32) (K : Int32 → AH → Prop) (E : Nat → AH → Prop) (h : AH) : Prop :=
  gR h v0 [1] 3 fun x1 =>
  (x1 = none → (nz .boolean 0 (K 0 h))) ∧ (¬ x1 = none → (gR h v0 [1] 3 fun x3 =>
  gI h x3 [9] 7 fun x4 =>
  w_X1_in g v1 1 ((1 <<< (x4 &&& 31)) - 1) (fun x5 h =>
  (x5 = 0 → (nz .boolean 0 (K 0 h))) ∧ (¬ x5 = 0 → (nz .boolean 1 (K 1 h)))) E0 h))
def w_X15_room (g : GT) (v0 : Option Nat) (K : Int32 → AH → Prop) (E : Nat → AH → Prop) (h : AH) : Prop :=
  gI h v0 [16, 17, 18, 19] 3 fun x1 =>
  K (x1 / 4) h
def w_X7_tries_J159 (rc : GT → Option Nat → Int32 → Int32 → (Unit → AH → Prop) → (Nat → AH → Prop) → AH → Prop) (g : GT) (v0 : Option Nat) (v1 : Int32) (v2 : Int32) (v3 : Int32) (K : Unit → AH → Prop) (E : Nat → AH → Prop) (L71 : Int32 → AH → Prop) (h : AH) : Prop :=
  nmI (v3 + 1) fun x28 =>
  L71 x28 h
def w_X7_tries_J145 (rc : GT → Option Nat → Int32 → Int32 → (Unit → AH → Prop) → (Nat → AH → Prop) → AH → Prop) (g : GT) (v0 : Option Nat) (v1 : Int32) (v2 : Int32) (v3 : Int32) (s0 : Int32) (s1 : Int32) (s2 : Int32) (s3 : Option Nat) (K : Unit → AH → Prop) (E : Nat → AH → Prop) (L71 : Int32 → AH → Prop) (h : AH) : Prop :=
  isO h s3 7 ∧ rc g s3 s2 (s1 + s0) (fun _ h =>
  gR h v0 [7] 2 fun x26 =>
  aI h x26 0 v3 fun x27 =>
  sI g h x26 0 v3 (x27 + 1) fun h =>
  w_X7_tries_J159 rc g v0 v1 v2 v3 K E L71 h) E0 h
def w_X7_tries_L71 (rc : GT → Option Nat → Int32 → Int32 → (Unit → AH → Prop) → (Nat → AH → Prop) → AH → Prop) (g : GT) (v0 : Option Nat) (v1 : Int32) (v2 : Int32) (K : Unit → AH → Prop) (E : Nat → AH → Prop) (L71 : Int32 → AH → Prop) (v3 : Int32) (h : AH) : Prop :=
  gR h v0 [7] 3 fun x9 =>
  gI h x9 [9] 8 fun x10 =>
  (x10 ≤ v3 → (K () h)) ∧ (¬ x10 ≤ v3 → (gR h v0 [7] 2 fun x12 =>
  aI h x12 0 v3 fun x13 =>
  (¬ x13 = 0 → (gR h v0 [7] 2 fun x15 =>
  aI h x15 0 v3 fun x16 =>
  sI g h x15 0 v3 (x16 - 1) fun h =>
  gR h v0 [7] 0 fun x17 =>
  sI g h x17 0 v1 v3 fun h =>
  gR h v0 [7] 4 fun x18 =>
  gR h x18 [4] 1 fun x19 =>
  aI h x19 0 v3 fun x20 =>
  (¬ x20 = v1 → (gR h v0 [7] 3 fun x22 =>
  gR h x22 [9] 1 fun x23 =>
  aR h x23 6 v3 fun x24 =>
  gI h x24 [16, 17, 18, 19] 2 fun x25 =>
  w_X7_tries_J145 rc g v0 v1 v2 v3 x25 v2 (v1 + 1) v0 K E L71 h)) ∧ (x20 = v1 → (w_X7_tries_J145 rc g v0 v1 v2 v3 0 v2 (v1 + 1) v0 K E L71 h)))) ∧ (x13 = 0 → (w_X7_tries_J159 rc g v0 v1 v2 v3 K E L71 h))))
def w_X7_tries_B (rc : GT → Option Nat → Int32 → Int32 → (Unit → AH → Prop) → (Nat → AH → Prop) → AH → Prop) (g : GT) (v0 : Option Nat) (v1 : Int32) (v2 : Int32) (K : Unit → AH → Prop) (E : Nat → AH → Prop) (h : AH) : Prop :=
  gI h v0 [7] 6 fun x1 =>
  (v2 < x1 → (gR h v0 [7] 3 fun x3 =>
  gI h x3 [9] 7 fun x4 =>
  (¬ v1 = x4 → (gI h v0 [7] 5 fun x6 =>
  w_X1_has g x6 v1 (fun x7 h =>
  (¬ x7 = 0 → (Lp1 (w_X7_tries_L71 rc g v0 v1 v2 K E) 0 h)) ∧ (x7 = 0 → (gR h v0 [7] 0 fun x29 =>
  sI g h x29 0 v1 (-2) fun h =>
  isO h v0 7 ∧ rc g v0 (v1 + 1) v2 (fun _ h =>
  K () h) E0 h))) E0 h)) ∧ (v1 = x4 → (pV g h v0 [7] 6 (.int v2) fun h =>
  gR h v0 [7] 0 fun x30 =>
  gR h v0 [7] 1 fun x31 =>
  cI g h x30 0 x31 0 6 fun h =>
  K () h)))) ∧ (¬ v2 < x1 → (K () h))
def w_X7_tries : Nat → GT → Option Nat → Int32 → Int32 → (Unit → AH → Prop) → (Nat → AH → Prop) → AH → Prop
  | 0 => fun _ _ _ _ _ _ _ => False
  | n + 1 => fun g v0 v1 v2 K E h => w_X7_tries_B (w_X7_tries n) g v0 v1 v2 K E h
def w_X7_seek_J79 (g : GT) (v0 : Option Nat) (v1 : Option Nat) (v2 : Option Nat) (v3 : Int32) (v4 : Int32) (s0 : Int32) (s1 : Int32) (s2 : Option Nat) (K : Int32 → AH → Prop) (E : Nat → AH → Prop) (L24 : Int32 → AH → Prop) (h : AH) : Prop :=
  sI g h s2 0 s1 s0 fun h =>
  nmI (v4 + 1) fun x10 =>
  L24 x10 h
def w_X7_seek_J78 (g : GT) (v0 : Option Nat) (v1 : Option Nat) (v2 : Option Nat) (v3 : Int32) (v4 : Int32) (s0 : Int32) (s1 : Option Nat) (K : Int32 → AH → Prop) (E : Nat → AH → Prop) (L24 : Int32 → AH → Prop) (h : AH) : Prop :=
  w_X7_seek_J79 g v0 v1 v2 v3 v4 0 s0 s1 K E L24 h
def w_X7_seek_L24 (g : GT) (v0 : Option Nat) (v1 : Option Nat) (v2 : Option Nat) (v3 : Int32) (K : Int32 → AH → Prop) (E : Nat → AH → Prop) (L24 : Int32 → AH → Prop) (v4 : Int32) (h : AH) : Prop :=
  gI h v1 [9] 8 fun x1 =>
  (x1 ≤ v4 → (isO h v0 7 ∧ w_X7_tries 8 g v0 0 0 (fun _ h =>
  gI h v0 [7] 6 fun x3 =>
  (¬ x3 = 1000000 → (gI h v0 [7] 6 fun x5 =>
  K x5 h)) ∧ (x3 = 1000000 → (K (-2) h))) E0 h)) ∧ (¬ x1 ≤ v4 → (gR h v0 [7] 2 fun x6 =>
  gR h v2 [4] 0 fun x7 =>
  aI h x7 0 v4 fun x8 =>
  (x8 = (-2) → (w_X7_seek_J78 g v0 v1 v2 v3 v4 v4 x6 K E L24 h)) ∧ (¬ x8 = (-2) → (gR h v2 [4] 0 fun x11 =>
  aI h x11 0 v4 fun x12 =>
  w_X1_has g v3 x12 (fun x13 h =>
  (x13 = 0 → (w_X7_seek_J78 g v0 v1 v2 v3 v4 v4 x6 K E L24 h)) ∧ (¬ x13 = 0 → (gR h v1 [9] 1 fun x15 =>
  aR h x15 6 v4 fun x16 =>
  letK (fun x17 h =>
  w_X7_seek_J79 g v0 v1 v2 v3 v4 x17 v4 x6 K E L24 h) (fun K18 => (isO h x16 16 ∧ w_X15_room g x16 K18 E0 h) ∨ (isO h x16 17 ∧ w_X15_room g x16 K18 E0 h) ∨ (isO h x16 18 ∧ w_X15_room g x16 K18 E0 h) ∨ (isO h x16 19 ∧ w_X15_room g x16 K18 E0 h))))) E0 h))))
def w_X7_seek (g : GT) (v0 : Option Nat) (v1 : Option Nat) (v2 : Option Nat) (v3 : Int32) (K : Int32 → AH → Prop) (E : Nat → AH → Prop) (h : AH) : Prop :=
  pV g h v0 [7] 3 (va_rf v1) fun h =>
  pV g h v0 [7] 4 (va_rf v2) fun h =>
  pV g h v0 [7] 5 (.int v3) fun h =>
  pV g h v0 [7] 6 (.int 1000000) fun h =>
  Lp1 (w_X7_seek_L24 g v0 v1 v2 v3 K E) 0 h
def w_X1_guest_J103 (g : GT) (v0 : Option Nat) (v1 : Int32) (v2 : Int32) (v3 : Int32) (v4 : Int32) (K : Int32 → AH → Prop) (E : Nat → AH → Prop) (L26 : Int32 → Int32 → Int32 → AH → Prop) (h : AH) : Prop :=
  nmI (v4 + 1) fun x13 =>
  L26 v2 v3 x13 h
def w_X1_guest_J97 (g : GT) (v0 : Option Nat) (v1 : Int32) (v4 : Int32) (v5 : Int32) (K : Int32 → AH → Prop) (E : Nat → AH → Prop) (L26 : Int32 → Int32 → Int32 → AH → Prop) (h : AH) : Prop :=
  w_X1_guest_J103 g v0 v1 v4 v5 v4 K E L26 h
def w_X1_guest_J73 (g : GT) (v0 : Option Nat) (v1 : Int32) (v2 : Int32) (v3 : Int32) (v4 : Int32) (s0 : Int32) (K : Int32 → AH → Prop) (E : Nat → AH → Prop) (L26 : Int32 → Int32 → Int32 → AH → Prop) (h : AH) : Prop :=
  (s0 = (-2) → (w_X1_guest_J103 g v0 v1 v2 v3 v4 K E L26 h)) ∧ (¬ s0 = (-2) → ((v2 = (-2) → (w_X1_guest_J97 g v0 v1 v4 s0 K E L26 h)) ∧ (¬ v2 = (-2) → ((s0 < v3 → (w_X1_guest_J97 g v0 v1 v4 s0 K E L26 h)) ∧ (¬ s0 < v3 → (w_X1_guest_J103 g v0 v1 v2 v3 v4 K E L26 h))))))
def w_X1_guest_L26 (g : GT) (v0 : Option Nat) (v1 : Int32) (K : Int32 → AH → Prop) (E : Nat → AH → Prop) (L26 : Int32 → Int32 → Int32 → AH → Prop) (v2 : Int32) (v3 : Int32) (v4 : Int32) (h : AH) : Prop :=
  gR h v0 [1] 3 fun x3 =>
  gI h x3 [9] 7 fun x4 =>
  (x4 ≤ v4 → (K v2 h)) ∧ (¬ x4 ≤ v4 → (w_X1_has g v1 v4 (fun x6 h =>
  (x6 = 0 → (gR h v0 [1] 15 fun x8 =>
  gR h v0 [1] 3 fun x9 =>
  gR h v0 [1] 9 fun x10 =>
  isO h x8 7 ∧ w_X7_seek g x8 x9 x10 (v1 ||| (1 <<< (v4 &&& 31))) (fun x11 h =>
  w_X1_guest_J73 g v0 v1 v2 v3 v4 x11 K E L26 h) E0 h)) ∧ (¬ x6 = 0 → (w_X1_guest_J73 g v0 v1 v2 v3 v4 (-2) K E L26 h))) E0 h))
def w_X1_guest (g : GT) (v0 : Option Nat) (v1 : Int32) (K : Int32 → AH → Prop) (E : Nat → AH → Prop) (h : AH) : Prop :=
  isO h v0 1 ∧ w_X1_anew g v0 (fun _ h =>
  isO h v0 1 ∧ w_X1_arePeople g v0 v1 (fun x1 h =>
  (¬ x1 = 0 → (Lp3 (w_X1_guest_L26 g v0 v1 K E) (-2) 0 0 h)) ∧ (x1 = 0 → (isO h v0 1 ∧ w_X1_no g v0 1 (fun x16 h =>
  K x16 h) E0 h))) E0 h) E0 h
def w_X6_tries_J163 (rc : GT → Option Nat → Int32 → Int32 → (Unit → AH → Prop) → (Nat → AH → Prop) → AH → Prop) (g : GT) (v0 : Option Nat) (v1 : Int32) (v2 : Int32) (v3 : Int32) (v4 : Int32) (K : Unit → AH → Prop) (E : Nat → AH → Prop) (L70 : Int32 → AH → Prop) (h : AH) : Prop :=
  nmI (v4 + 1) fun x26 =>
  L70 x26 h
def w_X6_tries_L70 (rc : GT → Option Nat → Int32 → Int32 → (Unit → AH → Prop) → (Nat → AH → Prop) → AH → Prop) (g : GT) (v0 : Option Nat) (v1 : Int32) (v2 : Int32) (v3 : Int32) (K : Unit → AH → Prop) (E : Nat → AH → Prop) (L54 : Int32 → AH → Prop) (L70 : Int32 → AH → Prop) (v4 : Int32) (h : AH) : Prop :=
  gR h v0 [6] 3 fun x6 =>
  gI h x6 [9] 8 fun x7 =>
  (x7 ≤ v4 → (nmI (v3 + 1) fun x9 =>
  L54 x9 h)) ∧ (¬ x7 ≤ v4 → (gR h v0 [6] 0 fun x10 =>
  aR h x10 4 v1 fun x11 =>
  gR h x11 [4] 0 fun x12 =>
  aI h x12 0 v3 fun x13 =>
  gR h v0 [6] 0 fun x14 =>
  aR h x14 4 v1 fun x15 =>
  gR h x15 [4] 0 fun x16 =>
  aI h x16 0 v4 fun x17 =>
  (¬ x13 = x17 → (gR h v0 [6] 0 fun x19 =>
  aR h x19 4 (v1 + 1) fun x20 =>
  gR h v0 [6] 0 fun x21 =>
  aR h x21 4 v1 fun x22 =>
  isO h x20 4 ∧ w_X4_become g x20 x22 (fun _ h =>
  gR h v0 [6] 0 fun x23 =>
  aR h x23 4 (v1 + 1) fun x24 =>
  isO h x24 4 ∧ w_X4_change g x24 v3 v4 (fun _ h =>
  gR h v0 [6] 1 fun x25 =>
  sI g h x25 0 v1 ((10 * v3) + v4) fun h =>
  isO h v0 6 ∧ rc g v0 (v1 + 1) v2 (fun _ h =>
  w_X6_tries_J163 rc g v0 v1 v2 v3 v4 K E L70 h) E0 h) E0 h) E0 h)) ∧ (x13 = x17 → (w_X6_tries_J163 rc g v0 v1 v2 v3 v4 K E L70 h))))
def w_X6_tries_L54 (rc : GT → Option Nat → Int32 → Int32 → (Unit → AH → Prop) → (Nat → AH → Prop) → AH → Prop) (g : GT) (v0 : Option Nat) (v1 : Int32) (v2 : Int32) (K : Unit → AH → Prop) (E : Nat → AH → Prop) (L54 : Int32 → AH → Prop) (v3 : Int32) (h : AH) : Prop :=
  gR h v0 [6] 3 fun x2 =>
  gI h x2 [9] 8 fun x3 =>
  (x3 ≤ v3 → (K () h)) ∧ (¬ x3 ≤ v3 → (nmI (v3 + 1) fun x5 =>
  Lp1 (w_X6_tries_L70 rc g v0 v1 v2 v3 K E L54) x5 h))
def w_X6_tries_B (rc : GT → Option Nat → Int32 → Int32 → (Unit → AH → Prop) → (Nat → AH → Prop) → AH → Prop) (g : GT) (v0 : Option Nat) (v1 : Int32) (v2 : Int32) (K : Unit → AH → Prop) (E : Nat → AH → Prop) (h : AH) : Prop :=
  (¬ v1 = v2 → (Lp1 (w_X6_tries_L54 rc g v0 v1 v2 K E) 0 h)) ∧ (v1 = v2 → (gR h v0 [6] 0 fun x27 =>
  aR h x27 4 v1 fun x28 =>
  isO h x28 4 ∧ w_X4_right g x28 (fun x29 h =>
  w_X1_ones g x29 (fun x30 h =>
  gI h v0 [6] 4 fun x31 =>
  (x31 < x30 → (pV g h v0 [6] 4 (.int x30) fun h =>
  pV g h v0 [6] 5 (.int v2) fun h =>
  gR h v0 [6] 1 fun x33 =>
  gR h v0 [6] 2 fun x34 =>
  cI g h x33 0 x34 0 3 fun h =>
  K () h)) ∧ (¬ x31 < x30 → (K () h))) E0 h) E0 h))
def w_X6_tries : Nat → GT → Option Nat → Int32 → Int32 → (Unit → AH → Prop) → (Nat → AH → Prop) → AH → Prop
  | 0 => fun _ _ _ _ _ _ _ => False
  | n + 1 => fun g v0 v1 v2 K E h => w_X6_tries_B (w_X6_tries n) g v0 v1 v2 K E h
def w_X6_seek_L27 (g : GT) (v0 : Option Nat) (K : Unit → AH → Prop) (E : Nat → AH → Prop) (L27 : Int32 → AH → Prop) (v3 : Int32) (h : AH) : Prop :=
  (3 < v3 → (K () h)) ∧ (¬ 3 < v3 → (isO h v0 6 ∧ w_X6_tries 6 g v0 0 v3 (fun _ h =>
  nmI (v3 + 1) fun x4 =>
  L27 x4 h) E0 h))
def w_X6_seek (g : GT) (v0 : Option Nat) (v1 : Option Nat) (v2 : Option Nat) (K : Unit → AH → Prop) (E : Nat → AH → Prop) (h : AH) : Prop :=
  pV g h v0 [6] 3 (va_rf v1) fun h =>
  pV g h v0 [6] 4 (.int (-1)) fun h =>
  pV g h v0 [6] 5 (.int 0) fun h =>
  gR h v0 [6] 0 fun x1 =>
  aR h x1 4 0 fun x2 =>
  isO h x2 4 ∧ w_X4_become g x2 v2 (fun _ h =>
  Lp1 (w_X6_seek_L27 g v0 K E) 0 h) E0 h
def w_X1_putRight (g : GT) (v0 : Option Nat) (K : Int32 → AH → Prop) (E : Nat → AH → Prop) (h : AH) : Prop :=
  isO h v0 1 ∧ w_X1_anew g v0 (fun _ h =>
  gR h v0 [1] 3 fun x1 =>
  (¬ x1 = none → (gR h v0 [1] 14 fun x3 =>
  gR h v0 [1] 3 fun x4 =>
  gR h v0 [1] 9 fun x5 =>
  isO h x3 6 ∧ w_X6_seek g x3 x4 x5 (fun _ h =>
  gR h v0 [1] 14 fun x6 =>
  gI h x6 [6] 4 fun x7 =>
  K x7 h) E0 h)) ∧ (x1 = none → (isO h v0 1 ∧ w_X1_no g v0 1 (fun x8 h =>
  K x8 h) E0 h))) E0 h
def w_X1_exchanges (g : GT) (v0 : Option Nat) (K : Int32 → AH → Prop) (E : Nat → AH → Prop) (h : AH) : Prop :=
  isO h v0 1 ∧ w_X1_anew g v0 (fun _ h =>
  gR h v0 [1] 3 fun x1 =>
  (¬ x1 = none → (gR h v0 [1] 14 fun x3 =>
  gR h v0 [1] 3 fun x4 =>
  gR h v0 [1] 9 fun x5 =>
  isO h x3 6 ∧ w_X6_seek g x3 x4 x5 (fun _ h =>
  gR h v0 [1] 14 fun x6 =>
  gI h x6 [6] 5 fun x7 =>
  K x7 h) E0 h)) ∧ (x1 = none → (isO h v0 1 ∧ w_X1_no g v0 1 (fun x8 h =>
  K x8 h) E0 h))) E0 h
def w_X6_at (g : GT) (v0 : Option Nat) (v1 : Int32) (K : Int32 → AH → Prop) (E : Nat → AH → Prop) (h : AH) : Prop :=
  gR h v0 [6] 2 fun x1 =>
  aI h x1 0 v1 fun x2 =>
  K x2 h
def w_X1_exchangeAt (g : GT) (v0 : Option Nat) (v1 : Int32) (K : Int32 → AH → Prop) (E : Nat → AH → Prop) (h : AH) : Prop :=
  isO h v0 1 ∧ w_X1_anew g v0 (fun _ h =>
  gR h v0 [1] 3 fun x1 =>
  (¬ x1 = none → (gR h v0 [1] 14 fun x3 =>
  gR h v0 [1] 3 fun x4 =>
  gR h v0 [1] 9 fun x5 =>
  isO h x3 6 ∧ w_X6_seek g x3 x4 x5 (fun _ h =>
  gR h v0 [1] 14 fun x6 =>
  gI h x6 [6] 5 fun x7 =>
  w_X1_in g v1 0 (x7 - 1) (fun x8 h =>
  (x8 = 0 → (isO h v0 1 ∧ w_X1_no g v0 1 (fun x10 h =>
  K x10 h) E0 h)) ∧ (¬ x8 = 0 → (gR h v0 [1] 14 fun x11 =>
  isO h x11 6 ∧ w_X6_at g x11 v1 (fun x12 h =>
  K x12 h) E0 h))) E0 h) E0 h)) ∧ (x1 = none → (isO h v0 1 ∧ w_X1_no g v0 1 (fun x13 h =>
  K x13 h) E0 h))) E0 h
def w_X1_party (g : GT) (v0 : Option Nat) (v1 : Int32) (K : Int32 → AH → Prop) (E : Nat → AH → Prop) (h : AH) : Prop :=
  isO h v0 1 ∧ w_X1_anew g v0 (fun _ h =>
  isO h v0 1 ∧ w_X1_arePeople g v0 v1 (fun x1 h =>
  (x1 = 0 → (isO h v0 1 ∧ w_X1_no g v0 1 (fun x3 h =>
  K x3 h) E0 h)) ∧ (¬ x1 = 0 → (gR h v0 [1] 15 fun x4 =>
  gR h v0 [1] 3 fun x5 =>
  gR h v0 [1] 9 fun x6 =>
  isO h x4 7 ∧ w_X7_seek g x4 x5 x6 v1 (fun x7 h =>
  K x7 h) E0 h))) E0 h) E0 h
def w_X7_at (g : GT) (v0 : Option Nat) (v1 : Int32) (K : Int32 → AH → Prop) (E : Nat → AH → Prop) (h : AH) : Prop :=
  gR h v0 [7] 1 fun x1 =>
  aI h x1 0 v1 fun x2 =>
  K x2 h
def w_X1_partyOf_J20 (g : GT) (v0 : Option Nat) (K : Int32 → AH → Prop) (E : Nat → AH → Prop) (h : AH) : Prop :=
  isO h v0 1 ∧ w_X1_no g v0 1 (fun x3 h =>
  K x3 h) E0 h
def w_X1_partyOf (g : GT) (v0 : Option Nat) (v1 : Int32) (v2 : Int32) (K : Int32 → AH → Prop) (E : Nat → AH → Prop) (h : AH) : Prop :=
  isO h v0 1 ∧ w_X1_anew g v0 (fun _ h =>
  isO h v0 1 ∧ w_X1_arePeople g v0 v1 (fun x1 h =>
  (x1 = 0 → (w_X1_partyOf_J20 g v0 K E h)) ∧ (¬ x1 = 0 → (isO h v0 1 ∧ w_X1_isPerson g v0 v2 (fun x4 h =>
  (¬ x4 = 0 → (gR h v0 [1] 15 fun x6 =>
  gR h v0 [1] 3 fun x7 =>
  gR h v0 [1] 9 fun x8 =>
  isO h x6 7 ∧ w_X7_seek g x6 x7 x8 v1 (fun x9 h =>
  (¬ x9 = (-2) → (gR h v0 [1] 15 fun x11 =>
  isO h x11 7 ∧ w_X7_at g x11 v2 (fun x12 h =>
  K x12 h) E0 h)) ∧ (x9 = (-2) → (isO h v0 1 ∧ w_X1_no g v0 6 (fun x13 h =>
  K x13 h) E0 h))) E0 h)) ∧ (x4 = 0 → (w_X1_partyOf_J20 g v0 K E h))) E0 h))) E0 h) E0 h
def w_X7_room_L4 (g : GT) (v0 : Option Nat) (K : Int32 → AH → Prop) (E : Nat → AH → Prop) (L4 : Int32 → Int32 → AH → Prop) (v1 : Int32) (v2 : Int32) (h : AH) : Prop :=
  gR h v0 [7] 3 fun x1 =>
  gI h x1 [9] 8 fun x2 =>
  (x2 ≤ v2 → (K v1 h)) ∧ (¬ x2 ≤ v2 → (gR h v0 [7] 2 fun x4 =>
  aI h x4 0 v2 fun x5 =>
  nmI (v1 + x5) fun x6 =>
  nmI (v2 + 1) fun x7 =>
  L4 x6 x7 h))
def w_X7_room (g : GT) (v0 : Option Nat) (K : Int32 → AH → Prop) (E : Nat → AH → Prop) (h : AH) : Prop :=
  Lp2 (w_X7_room_L4 g v0 K E) 0 0 h
def w_X1_room (g : GT) (v0 : Option Nat) (v1 : Int32) (K : Int32 → AH → Prop) (E : Nat → AH → Prop) (h : AH) : Prop :=
  isO h v0 1 ∧ w_X1_anew g v0 (fun _ h =>
  isO h v0 1 ∧ w_X1_arePeople g v0 v1 (fun x1 h =>
  (¬ x1 = 0 → (gR h v0 [1] 15 fun x3 =>
  gR h v0 [1] 3 fun x4 =>
  gR h v0 [1] 9 fun x5 =>
  isO h x3 7 ∧ w_X7_seek g x3 x4 x5 v1 (fun x6 h =>
  gR h v0 [1] 15 fun x7 =>
  isO h x7 7 ∧ w_X7_room g x7 (fun x8 h =>
  K x8 h) E0 h) E0 h)) ∧ (x1 = 0 → (isO h v0 1 ∧ w_X1_no g v0 1 (fun x9 h =>
  K x9 h) E0 h))) E0 h) E0 h
def w_X15_gust (g : GT) (v0 : Option Nat) (v1 : Int32) (K : Int32 → AH → Prop) (E : Nat → AH → Prop) (h : AH) : Prop :=
  K v1 h
def w_X16_gust (g : GT) (v0 : Option Nat) (v1 : Int32) (K : Int32 → AH → Prop) (E : Nat → AH → Prop) (h : AH) : Prop :=
  isO h v0 16 ∧ w_X15_gust g v0 v1 (fun x1 h =>
  K (x1 / 2) h) E0 h
def w_X1_stays (g : GT) (v0 : Option Nat) (v1 : Int32) (K : Int32 → AH → Prop) (E : Nat → AH → Prop) (h : AH) : Prop :=
  gR h v0 [1] 3 fun x1 =>
  gR h x1 [9] 1 fun x2 =>
  aR h x2 6 v1 fun x3 =>
  gR h v0 [1] 3 fun x4 =>
  gI h x4 [9] 5 fun x5 =>
  letK (fun x6 h =>
  K (100 - x6) h) (fun K7 => (isO h x3 16 ∧ w_X16_gust g x3 x5 K7 E0 h) ∨ (isO h x3 17 ∧ w_X15_gust g x3 x5 K7 E0 h) ∨ (isO h x3 18 ∧ w_X15_gust g x3 x5 K7 E0 h) ∨ (isO h x3 19 ∧ w_X15_gust g x3 x5 K7 E0 h))
def w_X1_dividing_B (rc : GT → Int64 → Int64 → (Int64 → AH → Prop) → (Nat → AH → Prop) → AH → Prop) (g : GT) (v0 : Int64) (v2 : Int64) (K : Int64 → AH → Prop) (E : Nat → AH → Prop) (h : AH) : Prop :=
  (¬ (lg_cmp v2 0) = 0 → (dzJ v2 (rc g v2 (v0 - v0 / v2 * v2) (fun x3 h =>
  K x3 h) E0 h))) ∧ ((lg_cmp v2 0) = 0 → (K v0 h))
def w_X1_dividing : Nat → GT → Int64 → Int64 → (Int64 → AH → Prop) → (Nat → AH → Prop) → AH → Prop
  | 0 => fun _ _ _ _ _ _ => False
  | n + 1 => fun g v0 v2 K E h => w_X1_dividing_B (w_X1_dividing n) g v0 v2 K E h
def w_X1_lowest_J10 (g : GT) (v0 : Int64) (v2 : Int64) (s0 : Int64) (K : Int64 → AH → Prop) (E : Nat → AH → Prop) (h : AH) : Prop :=
  w_X1_dividing 100 g v2 v0 (fun x2 h =>
  dzJ x2 (K (s0 / x2) h)) E0 h
def w_X1_lowest (g : GT) (v0 : Int64) (v2 : Int64) (v4 : Int32) (K : Int64 → AH → Prop) (E : Nat → AH → Prop) (h : AH) : Prop :=
  (v4 = 0 → (w_X1_lowest_J10 g v0 v2 v0 K E h)) ∧ (¬ v4 = 0 → (w_X1_lowest_J10 g v0 v2 v2 K E h))
def w_X1_whole_L45 (g : GT) (v0 : Option Nat) (v1 : Int32) (v2 : Int32) (v3 : Int32) (K : Int64 → AH → Prop) (E : Nat → AH → Prop) (L45 : Int64 → Int64 → Int32 → AH → Prop) (v4 : Int64) (v6 : Int64) (v8 : Int32) (h : AH) : Prop :=
  (v2 ≤ v8 → (w_X1_lowest g v4 v6 v3 (fun x6 h =>
  K x6 h) E0 h)) ∧ (¬ v2 ≤ v8 → (isO h v0 1 ∧ w_X1_stays g v0 v1 (fun x7 h =>
  nmJ (v4 * x7.toInt64) fun x8 =>
  nmJ (v6 * 100) fun x9 =>
  nmI (v8 + 1) fun x10 =>
  L45 x8 x9 x10 h) E0 h))
def w_X1_whole (g : GT) (v0 : Option Nat) (v1 : Int32) (v2 : Int32) (v3 : Int32) (K : Int64 → AH → Prop) (E : Nat → AH → Prop) (h : AH) : Prop :=
  isO h v0 1 ∧ w_X1_anew g v0 (fun _ h =>
  isO h v0 1 ∧ w_X1_isUmbrella g v0 v1 (fun x1 h =>
  (¬ x1 = 0 → (w_X1_in g v2 0 6 (fun x3 h =>
  (¬ x3 = 0 → (Lp3 (w_X1_whole_L45 g v0 v1 v2 v3 K E) 1 1 0 h)) ∧ (x3 = 0 → (isO h v0 1 ∧ w_X1_no g v0 2 (fun x11 h =>
  K x11.toInt64 h) E0 h))) E0 h)) ∧ (x1 = 0 → (isO h v0 1 ∧ w_X1_no g v0 1 (fun x12 h =>
  K x12.toInt64 h) E0 h))) E0 h) E0 h
def w_X1_allWhole_J107 (g : GT) (v0 : Option Nat) (v3 : Int32) (v4 : Int64) (v6 : Int64) (v8 : Int32) (v9 : Int32) (K : Int64 → AH → Prop) (E : Nat → AH → Prop) (L62 : Int64 → Int64 → Int32 → AH → Prop) (h : AH) : Prop :=
  nmI (v9 + 1) fun x17 =>
  L62 v4 v6 x17 h
def w_X1_allWhole_L62 (g : GT) (v0 : Option Nat) (v3 : Int32) (v8 : Int32) (K : Int64 → AH → Prop) (E : Nat → AH → Prop) (L62 : Int64 → Int64 → Int32 → AH → Prop) (v4 : Int64) (v6 : Int64) (v9 : Int32) (h : AH) : Prop :=
  gR h v0 [1] 3 fun x8 =>
  gI h x8 [9] 8 fun x9 =>
  (x9 ≤ v9 → (w_X1_lowest g v4 v6 v3 (fun x11 h =>
  K x11 h) E0 h)) ∧ (¬ x9 ≤ v9 → (w_X1_has g v8 v9 (fun x12 h =>
  (¬ x12 = 0 → (isO h v0 1 ∧ w_X1_stays g v0 v9 (fun x14 h =>
  nmJ (v4 * x14.toInt64) fun x15 =>
  nmJ (v6 * 100) fun x16 =>
  w_X1_allWhole_J107 g v0 v3 x15 x16 v8 v9 K E L62 h) E0 h)) ∧ (x12 = 0 → (w_X1_allWhole_J107 g v0 v3 v4 v6 v8 v9 K E L62 h))) E0 h))
def w_X1_allWhole_J57 (g : GT) (v0 : Option Nat) (v3 : Int32) (v4 : Int64) (v6 : Int64) (s0 : Int32) (K : Int64 → AH → Prop) (E : Nat → AH → Prop) (h : AH) : Prop :=
  Lp3 (w_X1_allWhole_L62 g v0 v3 s0 K E) v4 v6 0 h
def w_X1_allWhole (g : GT) (v0 : Option Nat) (v1 : Int32) (v2 : Int32) (v3 : Int32) (K : Int64 → AH → Prop) (E : Nat → AH → Prop) (h : AH) : Prop :=
  isO h v0 1 ∧ w_X1_anew g v0 (fun _ h =>
  isO h v0 1 ∧ w_X1_isPerson g v0 v1 (fun x1 h =>
  (¬ x1 = 0 → (w_X1_in g v2 0 1 (fun x3 h =>
  (¬ x3 = 0 → ((¬ v2 = 0 → (gR h v0 [1] 9 fun x6 =>
  isO h x6 4 ∧ w_X4_has g x6 v1 (fun x7 h =>
  w_X1_allWhole_J57 g v0 v3 1 1 x7 K E h) E0 h)) ∧ (v2 = 0 → (w_X1_allWhole_J57 g v0 v3 1 1 0 K E h)))) ∧ (x3 = 0 → (isO h v0 1 ∧ w_X1_no g v0 2 (fun x18 h =>
  K x18.toInt64 h) E0 h))) E0 h)) ∧ (x1 = 0 → (isO h v0 1 ∧ w_X1_no g v0 1 (fun x19 h =>
  K x19.toInt64 h) E0 h))) E0 h) E0 h
def w_X1_divided_J82 (g : GT)  (s0 : Int32) (s1 : Int32) (K : Int32 → AH → Prop) (E : Nat → AH → Prop) (h : AH) : Prop :=
  K (s1 + s0) h
def w_X1_divided (g : GT) (v0 : Option Nat) (v1 : Int32) (v2 : Int32) (v3 : Int32) (K : Int32 → AH → Prop) (E : Nat → AH → Prop) (h : AH) : Prop :=
  isO h v0 1 ∧ w_X1_anew g v0 (fun _ h =>
  isO h v0 1 ∧ w_X1_isUmbrella g v0 v1 (fun x1 h =>
  (¬ x1 = 0 → (w_X1_in g v2 1 9 (fun x3 h =>
  (¬ x3 = 0 → (w_X1_in g v3 0 (v2 - 1) (fun x5 h =>
  (¬ x5 = 0 → (gR h v0 [1] 3 fun x7 =>
  gR h x7 [9] 1 fun x8 =>
  aR h x8 6 v1 fun x9 =>
  gI h x9 [16, 17, 18, 19] 2 fun x10 =>
  dzI v2 (dzI v2 (((x10 - x10 / v2 * v2) ≤ v3 → (w_X1_divided_J82 g  0 (x10 / v2) K E h)) ∧ (¬ (x10 - x10 / v2 * v2) ≤ v3 → (w_X1_divided_J82 g  1 (x10 / v2) K E h)))))) ∧ (x5 = 0 → (isO h v0 1 ∧ w_X1_no g v0 1 (fun x14 h =>
  K x14 h) E0 h))) E0 h)) ∧ (x3 = 0 → (isO h v0 1 ∧ w_X1_no g v0 2 (fun x15 h =>
  K x15 h) E0 h))) E0 h)) ∧ (x1 = 0 → (isO h v0 1 ∧ w_X1_no g v0 1 (fun x16 h =>
  K x16 h) E0 h))) E0 h) E0 h
def w_X1_heirsOf_J21 (g : GT) (v1 : Int32) (s0 : Int32) (K : Int32 → AH → Prop) (E : Nat → AH → Prop) (h : AH) : Prop :=
  K (s0 - (2 * v1)) h
def w_X1_heirsOf (g : GT) (v0 : Int32) (v1 : Int32) (v2 : Int32) (K : Int32 → AH → Prop) (E : Nat → AH → Prop) (h : AH) : Prop :=
  (v1 ≤ v2 → ((¬ v1 = v2 → (w_X1_heirsOf_J21 g v1 0 K E h)) ∧ (v1 = v2 → (w_X1_heirsOf_J21 g v1 (v0 / 2) K E h)))) ∧ (¬ v1 ≤ v2 → (w_X1_heirsOf_J21 g v1 v0 K E h))
def w_X1_heirs_J75 (g : GT)  (s0 : Int32) (s1 : Option Nat) (K : Int32 → AH → Prop) (E : Nat → AH → Prop) (h : AH) : Prop :=
  pV g h s1 [1] 4 (.int s0) fun h =>
  K (-100) h
def w_X1_heirs_J62 (g : GT) (v0 : Option Nat) (K : Int32 → AH → Prop) (E : Nat → AH → Prop) (h : AH) : Prop :=
  gR h v0 [1] 3 fun x3 =>
  (¬ x3 = none → (w_X1_heirs_J75 g  2 v0 K E h)) ∧ (x3 = none → (w_X1_heirs_J75 g  1 v0 K E h))
def w_X1_heirs (g : GT) (v0 : Option Nat) (v1 : Int32) (v2 : Int32) (v3 : Int32) (v4 : Int32) (K : Int32 → AH → Prop) (E : Nat → AH → Prop) (h : AH) : Prop :=
  isO h v0 1 ∧ w_X1_anew g v0 (fun _ h =>
  gR h v0 [1] 3 fun x1 =>
  (x1 = none → (w_X1_heirs_J62 g v0 K E h)) ∧ (¬ x1 = none → (w_X1_in g v1 0 99 (fun x5 h =>
  (x5 = 0 → (w_X1_heirs_J62 g v0 K E h)) ∧ (¬ x5 = 0 → (w_X1_in g v2 0 6 (fun x7 h =>
  (x7 = 0 → (w_X1_heirs_J62 g v0 K E h)) ∧ (¬ x7 = 0 → (w_X1_in g v3 0 6 (fun x9 h =>
  (x9 = 0 → (w_X1_heirs_J62 g v0 K E h)) ∧ (¬ x9 = 0 → ((v4 = 0 → (w_X1_heirsOf g v1 v2 v3 (fun x12 h =>
  K x12 h) E0 h)) ∧ (¬ v4 = 0 → (w_X1_heirsOf g v1 v3 v2 (fun x13 h =>
  K x13 h) E0 h))))) E0 h))) E0 h))) E0 h))) E0 h
def w_X1_landsWhy (g : GT) (v0 : Option Nat) (v1 : Int32) (K : Int32 → AH → Prop) (E : Nat → AH → Prop) (h : AH) : Prop :=
  gR h v0 [1] 3 fun x1 =>
  (¬ x1 = none → (w_X1_in g v1 0 99 (fun x3 h =>
  (x3 = 0 → (K 2 h)) ∧ (¬ x3 = 0 → (K 0 h))) E0 h)) ∧ (x1 = none → (K 1 h))
def w_X1_isRest_J53 (g : GT) (v0 : Int32) (v1 : Int32) (v2 : Int32) (v4 : Int32) (s0 : Int32) (K : Int32 → AH → Prop) (E : Nat → AH → Prop) (L5 : Int32 → Int32 → AH → Prop) (h : AH) : Prop :=
  nmI (v4 + 1) fun x3 =>
  L5 s0 x3 h
def w_X1_isRest_J52 (g : GT) (v0 : Int32) (v1 : Int32) (v2 : Int32) (v4 : Int32) (K : Int32 → AH → Prop) (E : Nat → AH → Prop) (L5 : Int32 → Int32 → AH → Prop) (h : AH) : Prop :=
  w_X1_isRest_J53 g v0 v1 v2 v4 0 K E L5 h
def w_X1_isRest_L5 (g : GT) (v0 : Int32) (v1 : Int32) (v2 : Int32) (K : Int32 → AH → Prop) (E : Nat → AH → Prop) (L5 : Int32 → Int32 → AH → Prop) (v3 : Int32) (v4 : Int32) (h : AH) : Prop :=
  (6 < v4 → (nz .boolean v3 (K v3 h))) ∧ (¬ 6 < v4 → ((v3 = 0 → (w_X1_isRest_J52 g v0 v1 v2 v4 K E L5 h)) ∧ (¬ v3 = 0 → (w_X1_heirsOf g v0 v4 v2 (fun x4 h =>
  w_X1_heirsOf g v0 v1 v2 (fun x5 h =>
  (x5 < x4 → (w_X1_isRest_J52 g v0 v1 v2 v4 K E L5 h)) ∧ (¬ x5 < x4 → (w_X1_heirsOf g v0 v4 v1 (fun x7 h =>
  w_X1_heirsOf g v0 v2 v1 (fun x8 h =>
  (x8 < x7 → (w_X1_isRest_J52 g v0 v1 v2 v4 K E L5 h)) ∧ (¬ x8 < x7 → (w_X1_isRest_J53 g v0 v1 v2 v4 1 K E L5 h))) E0 h) E0 h))) E0 h) E0 h))))
def w_X1_isRest (g : GT) (v0 : Int32) (v1 : Int32) (v2 : Int32) (K : Int32 → AH → Prop) (E : Nat → AH → Prop) (h : AH) : Prop :=
  Lp2 (w_X1_isRest_L5 g v0 v1 v2 K E) 1 0 h
def w_X1_seekRests_J57 (g : GT) (v0 : Option Nat) (v1 : Int32) (v2 : Int32) (v3 : Int32) (v4 : Int32) (K : Int32 → AH → Prop) (E : Nat → AH → Prop) (L19 : Int32 → Int32 → AH → Prop) (h : AH) : Prop :=
  nmI (v4 + 1) fun x8 =>
  L19 v2 x8 h
def w_X1_seekRests_J54 (g : GT) (v0 : Option Nat) (v1 : Int32) (v2 : Int32) (v3 : Int32) (v4 : Int32) (K : Int32 → AH → Prop) (E : Nat → AH → Prop) (L19 : Int32 → Int32 → AH → Prop) (h : AH) : Prop :=
  nmI (v2 + 1) fun x7 =>
  w_X1_seekRests_J57 g v0 v1 x7 v3 v4 K E L19 h
def w_X1_seekRests_L19 (g : GT) (v0 : Option Nat) (v1 : Int32) (v3 : Int32) (K : Int32 → AH → Prop) (E : Nat → AH → Prop) (L10 : Int32 → Int32 → AH → Prop) (L19 : Int32 → Int32 → AH → Prop) (v2 : Int32) (v4 : Int32) (h : AH) : Prop :=
  (6 < v4 → (nmI (v3 + 1) fun x3 =>
  L10 v2 x3 h)) ∧ (¬ 6 < v4 → (w_X1_isRest g v1 v3 v4 (fun x4 h =>
  (¬ x4 = 0 → ((¬ v2 = 0 → (w_X1_seekRests_J54 g v0 v1 v2 v3 v4 K E L19 h)) ∧ (v2 = 0 → (pV g h v0 [1] 20 (.int ((10 * v3) + v4)) fun h =>
  w_X1_seekRests_J54 g v0 v1 v2 v3 v4 K E L19 h)))) ∧ (x4 = 0 → (w_X1_seekRests_J57 g v0 v1 v2 v3 v4 K E L19 h))) E0 h))
def w_X1_seekRests_L10 (g : GT) (v0 : Option Nat) (v1 : Int32) (K : Int32 → AH → Prop) (E : Nat → AH → Prop) (L10 : Int32 → Int32 → AH → Prop) (v2 : Int32) (v3 : Int32) (h : AH) : Prop :=
  (6 < v3 → (K v2 h)) ∧ (¬ 6 < v3 → (Lp2 (w_X1_seekRests_L19 g v0 v1 v3 K E L10) v2 0 h))
def w_X1_seekRests (g : GT) (v0 : Option Nat) (v1 : Int32) (K : Int32 → AH → Prop) (E : Nat → AH → Prop) (h : AH) : Prop :=
  pV g h v0 [1] 20 (.int (-2)) fun h =>
  Lp2 (w_X1_seekRests_L10 g v0 v1 K E) 0 0 h
def w_X1_rests (g : GT) (v0 : Option Nat) (v1 : Int32) (K : Int32 → AH → Prop) (E : Nat → AH → Prop) (h : AH) : Prop :=
  isO h v0 1 ∧ w_X1_anew g v0 (fun _ h =>
  isO h v0 1 ∧ w_X1_landsWhy g v0 v1 (fun x1 h =>
  (x1 = 0 → (isO h v0 1 ∧ w_X1_seekRests g v0 v1 (fun x3 h =>
  K x3 h) E0 h)) ∧ (¬ x1 = 0 → (isO h v0 1 ∧ w_X1_no g v0 x1 (fun x4 h =>
  K x4 h) E0 h))) E0 h) E0 h
def w_X1_rest (g : GT) (v0 : Option Nat) (v1 : Int32) (K : Int32 → AH → Prop) (E : Nat → AH → Prop) (h : AH) : Prop :=
  isO h v0 1 ∧ w_X1_anew g v0 (fun _ h =>
  isO h v0 1 ∧ w_X1_landsWhy g v0 v1 (fun x1 h =>
  (x1 = 0 → (isO h v0 1 ∧ w_X1_seekRests g v0 v1 (fun x3 h =>
  gI h v0 [1] 20 fun x4 =>
  K x4 h) E0 h)) ∧ (¬ x1 = 0 → (isO h v0 1 ∧ w_X1_no g v0 x1 (fun x5 h =>
  K x5 h) E0 h))) E0 h) E0 h
def w_X1_landsIf (g : GT) (v0 : Option Nat) (v1 : Int32) (v2 : Int32) (K : Int32 → AH → Prop) (E : Nat → AH → Prop) (h : AH) : Prop :=
  gR h v0 [1] 11 fun x1 =>
  gR h v0 [1] 9 fun x2 =>
  isO h x1 4 ∧ w_X4_become g x1 x2 (fun _ h =>
  gR h v0 [1] 11 fun x3 =>
  gR h x3 [4] 0 fun x4 =>
  sI g h x4 0 v2 v1 fun h =>
  gR h v0 [1] 11 fun x5 =>
  isO h x5 4 ∧ w_X4_ends g x5 1 (fun _ h =>
  gR h v0 [1] 11 fun x6 =>
  isO h x6 4 ∧ w_X4_lands g x6 v1 (fun x7 h =>
  K x7 h) E0 h) E0 h) E0 h
def w_X1_mostOf_J32 (g : GT) (v0 : Option Nat) (v1 : Int32) (v2 : Int32) (v3 : Int32) (K : Int32 → AH → Prop) (E : Nat → AH → Prop) (L4 : Int32 → Int32 → AH → Prop) (h : AH) : Prop :=
  nmI (v3 + 1) fun x7 =>
  L4 v2 x7 h
def w_X1_mostOf_L4 (g : GT) (v0 : Option Nat) (v1 : Int32) (K : Int32 → AH → Prop) (E : Nat → AH → Prop) (L4 : Int32 → Int32 → AH → Prop) (v2 : Int32) (v3 : Int32) (h : AH) : Prop :=
  gR h v0 [1] 3 fun x1 =>
  gI h x1 [9] 8 fun x2 =>
  (x2 ≤ v3 → (K v2 h)) ∧ (¬ x2 ≤ v3 → (isO h v0 1 ∧ w_X1_landsIf g v0 v1 v3 (fun x4 h =>
  isO h v0 1 ∧ w_X1_landsIf g v0 v1 v2 (fun x5 h =>
  (x4 ≤ x5 → (w_X1_mostOf_J32 g v0 v1 v2 v3 K E L4 h)) ∧ (¬ x4 ≤ x5 → (w_X1_mostOf_J32 g v0 v1 v3 v3 K E L4 h))) E0 h) E0 h))
def w_X1_mostOf (g : GT) (v0 : Option Nat) (v1 : Int32) (K : Int32 → AH → Prop) (E : Nat → AH → Prop) (h : AH) : Prop :=
  Lp2 (w_X1_mostOf_L4 g v0 v1 K E) 0 1 h
def w_X1_most (g : GT) (v0 : Option Nat) (v1 : Int32) (K : Int32 → AH → Prop) (E : Nat → AH → Prop) (h : AH) : Prop :=
  isO h v0 1 ∧ w_X1_anew g v0 (fun _ h =>
  isO h v0 1 ∧ w_X1_isPerson g v0 v1 (fun x1 h =>
  (x1 = 0 → (isO h v0 1 ∧ w_X1_no g v0 1 (fun x3 h =>
  K x3 h) E0 h)) ∧ (¬ x1 = 0 → (isO h v0 1 ∧ w_X1_mostOf g v0 v1 (fun x4 h =>
  K x4 h) E0 h))) E0 h) E0 h
def w_X1_mostLands (g : GT) (v0 : Option Nat) (v1 : Int32) (K : Int32 → AH → Prop) (E : Nat → AH → Prop) (h : AH) : Prop :=
  isO h v0 1 ∧ w_X1_anew g v0 (fun _ h =>
  isO h v0 1 ∧ w_X1_isPerson g v0 v1 (fun x1 h =>
  (x1 = 0 → (isO h v0 1 ∧ w_X1_no g v0 1 (fun x3 h =>
  K x3 h) E0 h)) ∧ (¬ x1 = 0 → (isO h v0 1 ∧ w_X1_mostOf g v0 v1 (fun x4 h =>
  isO h v0 1 ∧ w_X1_landsIf g v0 v1 x4 (fun x5 h =>
  K x5 h) E0 h) E0 h))) E0 h) E0 h
def w_X1_centuryWhy_J150 (g : GT) (v0 : Option Nat) (v3 : Int32) (v4 : Int32) (v5 : Int32) (s0 : Int32) (s1 : Option Nat) (K : Int32 → AH → Prop) (E : Nat → AH → Prop) (L46 : Int32 → Int32 → AH → Prop) (h : AH) : Prop :=
  isO h s1 4 ∧ w_X4_ends g s1 s0 (fun _ h =>
  nmI (v5 + 1) fun x25 =>
  L46 v4 x25 h) E0 h
def w_X1_centuryWhy_L46 (g : GT) (v0 : Option Nat) (v3 : Int32) (K : Int32 → AH → Prop) (E : Nat → AH → Prop) (L46 : Int32 → Int32 → AH → Prop) (v4 : Int32) (v5 : Int32) (h : AH) : Prop :=
  (v3 ≤ v5 → (K 0 h)) ∧ (¬ v3 ≤ v5 → (nmI (((75 * v4) + 74) - ((75 * v4) + 74) / 65537 * 65537) fun x9 =>
  gR h v0 [1] 3 fun x10 =>
  gI h x10 [9] 8 fun x11 =>
  dzI x11 (nmI (x9 - x9 / x11 * x11) fun x13 =>
  nmI (((75 * x9) + 74) - ((75 * x9) + 74) / 65537 * 65537) fun x14 =>
  gR h v0 [1] 11 fun x15 =>
  gR h x15 [4] 0 fun x16 =>
  gR h v0 [1] 3 fun x17 =>
  gI h x17 [9] 7 fun x18 =>
  dzI x18 (sI g h x16 0 x13 (x14 - x14 / x18 * x18) fun h =>
  nmI (((75 * x14) + 74) - ((75 * x14) + 74) / 65537 * 65537) fun x20 =>
  gR h v0 [1] 11 fun x21 =>
  gR h v0 [1] 3 fun x22 =>
  gI h x22 [9] 6 fun x23 =>
  (x23 ≤ (x20 - x20 / 100 * 100) → (w_X1_centuryWhy_J150 g v0 v3 x20 v5 0 x21 K E L46 h)) ∧ (¬ x23 ≤ (x20 - x20 / 100 * 100) → (w_X1_centuryWhy_J150 g v0 v3 x20 v5 1 x21 K E L46 h))))))
def w_X1_centuryWhy (g : GT) (v0 : Option Nat) (v1 : Int32) (v2 : Int32) (v3 : Int32) (K : Int32 → AH → Prop) (E : Nat → AH → Prop) (h : AH) : Prop :=
  (¬ v1 = 0 → (w_X1_in g v2 0 65536 (fun x2 h =>
  (x2 = 0 → (K 2 h)) ∧ (¬ x2 = 0 → (w_X1_in g v3 0 60 (fun x4 h =>
  (¬ x4 = 0 → (gR h v0 [1] 11 fun x6 =>
  gR h v0 [1] 9 fun x7 =>
  isO h x6 4 ∧ w_X4_become g x6 x7 (fun _ h =>
  Lp2 (w_X1_centuryWhy_L46 g v0 v3 K E) v2 0 h) E0 h)) ∧ (x4 = 0 → (K 2 h))) E0 h))) E0 h)) ∧ (v1 = 0 → (K 1 h))
def w_X1_century (g : GT) (v0 : Option Nat) (v1 : Int32) (v2 : Int32) (v3 : Int32) (K : Int32 → AH → Prop) (E : Nat → AH → Prop) (h : AH) : Prop :=
  isO h v0 1 ∧ w_X1_anew g v0 (fun _ h =>
  isO h v0 1 ∧ w_X1_isPerson g v0 v1 (fun x1 h =>
  isO h v0 1 ∧ w_X1_centuryWhy g v0 x1 v2 v3 (fun x2 h =>
  (x2 = 0 → (gR h v0 [1] 11 fun x4 =>
  isO h x4 4 ∧ w_X4_lands g x4 v1 (fun x5 h =>
  K x5 h) E0 h)) ∧ (¬ x2 = 0 → (isO h v0 1 ∧ w_X1_no g v0 x2 (fun x6 h =>
  K x6 h) E0 h))) E0 h) E0 h) E0 h
def w_X1_untitled_J73 (g : GT) (v0 : Option Nat) (v5 : Int32) (s0 : Int32) (s1 : Int32) (K : Int32 → AH → Prop) (E : Nat → AH → Prop) (L39 : Int32 → Int32 → AH → Prop) (h : AH) : Prop :=
  nmI (s1 + s0) fun x12 =>
  nmI (v5 + 1) fun x13 =>
  L39 x12 x13 h
def w_X1_untitled_L39 (g : GT) (v0 : Option Nat) (K : Int32 → AH → Prop) (E : Nat → AH → Prop) (L39 : Int32 → Int32 → AH → Prop) (v4 : Int32) (v5 : Int32) (h : AH) : Prop :=
  gR h v0 [1] 3 fun x5 =>
  gI h x5 [9] 8 fun x6 =>
  (x6 ≤ v5 → (K v4 h)) ∧ (¬ x6 ≤ v5 → (gR h v0 [1] 11 fun x8 =>
  gR h x8 [4] 1 fun x9 =>
  aI h x9 0 v5 fun x10 =>
  (¬ x10 = (-2) → (w_X1_untitled_J73 g v0 v5 0 v4 K E L39 h)) ∧ (x10 = (-2) → (w_X1_untitled_J73 g v0 v5 1 v4 K E L39 h))))
def w_X1_untitled_J17 (g : GT) (v0 : Option Nat) (v1 : Int32) (v2 : Int32) (s0 : Int32) (s1 : Option Nat) (K : Int32 → AH → Prop) (E : Nat → AH → Prop) (h : AH) : Prop :=
  isO h s1 1 ∧ w_X1_centuryWhy g s1 s0 v1 v2 (fun x3 h =>
  (x3 = 0 → (Lp2 (w_X1_untitled_L39 g v0 K E) 0 0 h)) ∧ (¬ x3 = 0 → (isO h v0 1 ∧ w_X1_no g v0 x3 (fun x14 h =>
  K x14 h) E0 h))) E0 h
def w_X1_untitled (g : GT) (v0 : Option Nat) (v1 : Int32) (v2 : Int32) (K : Int32 → AH → Prop) (E : Nat → AH → Prop) (h : AH) : Prop :=
  isO h v0 1 ∧ w_X1_anew g v0 (fun _ h =>
  gR h v0 [1] 3 fun x1 =>
  (x1 = none → (w_X1_untitled_J17 g v0 v1 v2 0 v0 K E h)) ∧ (¬ x1 = none → (w_X1_untitled_J17 g v0 v1 v2 1 v0 K E h))) E0 h
def w_X1_yes (g : GT) (v0 : Option Nat) (v1 : Int32) (K : Int32 → AH → Prop) (E : Nat → AH → Prop) (h : AH) : Prop :=
  isO h v0 1 ∧ w_X1_anew g v0 (fun _ h =>
  pV g h v0 [1] 4 (.int v1) fun h =>
  (¬ v1 = 0 → (nz .boolean 0 (K 0 h))) ∧ (v1 = 0 → (nz .boolean 1 (K 1 h)))) E0 h
def w_X1_note (g : GT) (v0 : Option Nat) (K : Unit → AH → Prop) (E : Nat → AH → Prop) (h : AH) : Prop :=
  gR h v0 [1] 10 fun x1 =>
  gR h v0 [1] 9 fun x2 =>
  isO h x1 4 ∧ w_X4_become g x1 x2 (fun _ h =>
  K () h) E0 h
def w_X1_done_J62 (g : GT) (v0 : Option Nat) (K : Int32 → AH → Prop) (E : Nat → AH → Prop) (h : AH) : Prop :=
  gR h v0 [1] 16 fun x3 =>
  gI h v0 [1] 8 fun x4 =>
  aR h x3 4 x4 fun x5 =>
  gR h v0 [1] 10 fun x6 =>
  isO h x5 4 ∧ w_X4_become g x5 x6 (fun _ h =>
  gI h v0 [1] 8 fun x7 =>
  pV g h v0 [1] 8 (.int (x7 + 1)) fun h =>
  nz .boolean 1 (K 1 h)) E0 h
def w_X1_done_L18 (g : GT) (v0 : Option Nat) (v1 : Option Nat) (K : Int32 → AH → Prop) (E : Nat → AH → Prop) (L18 : Int32 → AH → Prop) (v2 : Int32) (h : AH) : Prop :=
  (16 ≤ v2 → (gR h v0 [1] 16 fun x11 =>
  sR g h x11 4 [4] 15 v1 fun h =>
  gI h v0 [1] 8 fun x12 =>
  pV g h v0 [1] 8 (.int (x12 - 1)) fun h =>
  w_X1_done_J62 g v0 K E h)) ∧ (¬ 16 ≤ v2 → (gR h v0 [1] 16 fun x13 =>
  gR h v0 [1] 16 fun x14 =>
  aR h x14 4 v2 fun x15 =>
  sR g h x13 4 [4] (v2 - 1) x15 fun h =>
  nmI (v2 + 1) fun x16 =>
  L18 x16 h))
def w_X1_done (g : GT) (v0 : Option Nat) (K : Int32 → AH → Prop) (E : Nat → AH → Prop) (h : AH) : Prop :=
  gI h v0 [1] 8 fun x1 =>
  (¬ x1 = 16 → (w_X1_done_J62 g v0 K E h)) ∧ (x1 = 16 → (gR h v0 [1] 16 fun x8 =>
  aR h x8 4 0 fun x9 =>
  Lp1 (w_X1_done_L18 g v0 x9 K E) 1 h))
def w_X1_lend_J39 (g : GT) (v0 : Option Nat) (v1 : Int32) (v2 : Int32) (s0 : Int32) (s1 : Option Nat) (K : Int32 → AH → Prop) (E : Nat → AH → Prop) (h : AH) : Prop :=
  isO h s1 1 ∧ w_X1_yes g s1 s0 (fun x3 h =>
  (¬ x3 = 0 → (isO h v0 1 ∧ w_X1_note g v0 (fun _ h =>
  gR h v0 [1] 9 fun x5 =>
  gR h x5 [4] 0 fun x6 =>
  sI g h x6 0 v1 v2 fun h =>
  isO h v0 1 ∧ w_X1_done g v0 (fun x7 h =>
  nz .boolean x7 (K x7 h)) E0 h) E0 h)) ∧ (x3 = 0 → (nz .boolean 0 (K 0 h)))) E0 h
def w_X1_lend_J17 (g : GT) (v0 : Option Nat) (v1 : Int32) (v2 : Int32) (s0 : Option Nat) (K : Int32 → AH → Prop) (E : Nat → AH → Prop) (h : AH) : Prop :=
  w_X1_lend_J39 g v0 v1 v2 1 s0 K E h
def w_X1_lend (g : GT) (v0 : Option Nat) (v1 : Int32) (v2 : Int32) (K : Int32 → AH → Prop) (E : Nat → AH → Prop) (h : AH) : Prop :=
  isO h v0 1 ∧ w_X1_isUmbrella g v0 v1 (fun x1 h =>
  (x1 = 0 → (w_X1_lend_J17 g v0 v1 v2 v0 K E h)) ∧ (¬ x1 = 0 → (isO h v0 1 ∧ w_X1_isPerson g v0 v2 (fun x8 h =>
  (¬ x8 = 0 → (gR h v0 [1] 9 fun x10 =>
  gR h x10 [4] 0 fun x11 =>
  aI h x11 0 v1 fun x12 =>
  (¬ x12 = v2 → (w_X1_lend_J39 g v0 v1 v2 0 v0 K E h)) ∧ (x12 = v2 → (w_X1_lend_J39 g v0 v1 v2 5 v0 K E h)))) ∧ (x8 = 0 → (w_X1_lend_J17 g v0 v1 v2 v0 K E h))) E0 h))) E0 h
def w_X1_leave_J32 (g : GT) (v0 : Option Nat) (v1 : Int32) (s0 : Int32) (s1 : Option Nat) (K : Int32 → AH → Prop) (E : Nat → AH → Prop) (h : AH) : Prop :=
  isO h s1 1 ∧ w_X1_yes g s1 s0 (fun x7 h =>
  (¬ x7 = 0 → (isO h v0 1 ∧ w_X1_note g v0 (fun _ h =>
  gR h v0 [1] 9 fun x9 =>
  gR h x9 [4] 0 fun x10 =>
  sI g h x10 0 v1 (-2) fun h =>
  isO h v0 1 ∧ w_X1_done g v0 (fun x11 h =>
  nz .boolean x11 (K x11 h)) E0 h) E0 h)) ∧ (x7 = 0 → (nz .boolean 0 (K 0 h)))) E0 h
def w_X1_leave (g : GT) (v0 : Option Nat) (v1 : Int32) (K : Int32 → AH → Prop) (E : Nat → AH → Prop) (h : AH) : Prop :=
  isO h v0 1 ∧ w_X1_isUmbrella g v0 v1 (fun x1 h =>
  (¬ x1 = 0 → (gR h v0 [1] 9 fun x3 =>
  gR h x3 [4] 0 fun x4 =>
  aI h x4 0 v1 fun x5 =>
  (¬ x5 = (-2) → (w_X1_leave_J32 g v0 v1 0 v0 K E h)) ∧ (x5 = (-2) → (w_X1_leave_J32 g v0 v1 5 v0 K E h)))) ∧ (x1 = 0 → (w_X1_leave_J32 g v0 v1 1 v0 K E h))) E0 h
def w_X1_exchange_J52 (g : GT) (v0 : Option Nat) (v1 : Int32) (v2 : Int32) (s0 : Int32) (s1 : Option Nat) (K : Int32 → AH → Prop) (E : Nat → AH → Prop) (h : AH) : Prop :=
  isO h s1 1 ∧ w_X1_yes g s1 s0 (fun x3 h =>
  (¬ x3 = 0 → (isO h v0 1 ∧ w_X1_note g v0 (fun _ h =>
  gR h v0 [1] 9 fun x5 =>
  isO h x5 4 ∧ w_X4_change g x5 v1 v2 (fun _ h =>
  isO h v0 1 ∧ w_X1_done g v0 (fun x6 h =>
  nz .boolean x6 (K x6 h)) E0 h) E0 h) E0 h)) ∧ (x3 = 0 → (nz .boolean 0 (K 0 h)))) E0 h
def w_X1_exchange_J22 (g : GT) (v0 : Option Nat) (v1 : Int32) (v2 : Int32) (s0 : Option Nat) (K : Int32 → AH → Prop) (E : Nat → AH → Prop) (h : AH) : Prop :=
  w_X1_exchange_J52 g v0 v1 v2 1 s0 K E h
def w_X1_exchange (g : GT) (v0 : Option Nat) (v1 : Int32) (v2 : Int32) (K : Int32 → AH → Prop) (E : Nat → AH → Prop) (h : AH) : Prop :=
  isO h v0 1 ∧ w_X1_isUmbrella g v0 v1 (fun x1 h =>
  (x1 = 0 → (w_X1_exchange_J22 g v0 v1 v2 v0 K E h)) ∧ (¬ x1 = 0 → (isO h v0 1 ∧ w_X1_isUmbrella g v0 v2 (fun x7 h =>
  (x7 = 0 → (w_X1_exchange_J22 g v0 v1 v2 v0 K E h)) ∧ (¬ x7 = 0 → ((¬ v1 = v2 → (gR h v0 [1] 9 fun x10 =>
  gR h x10 [4] 0 fun x11 =>
  aI h x11 0 v1 fun x12 =>
  gR h v0 [1] 9 fun x13 =>
  gR h x13 [4] 0 fun x14 =>
  aI h x14 0 v2 fun x15 =>
  (¬ x12 = x15 → (w_X1_exchange_J52 g v0 v1 v2 0 v0 K E h)) ∧ (x12 = x15 → (w_X1_exchange_J52 g v0 v1 v2 5 v0 K E h)))) ∧ (v1 = v2 → (w_X1_exchange_J22 g v0 v1 v2 v0 K E h))))) E0 h))) E0 h
def w_X1_day_J76 (g : GT) (v0 : Option Nat) (v3 : Int32) (s0 : Int32) (s1 : Int32) (K : Int32 → AH → Prop) (E : Nat → AH → Prop) (L38 : Int32 → Int32 → AH → Prop) (h : AH) : Prop :=
  nmI (s1 + s0) fun x15 =>
  nmI (v3 + 1) fun x16 =>
  L38 x15 x16 h
def w_X1_day_L38 (g : GT) (v0 : Option Nat) (K : Int32 → AH → Prop) (E : Nat → AH → Prop) (L38 : Int32 → Int32 → AH → Prop) (v2 : Int32) (v3 : Int32) (h : AH) : Prop :=
  gR h v0 [1] 3 fun x5 =>
  gI h x5 [9] 8 fun x6 =>
  (x6 ≤ v3 → (K v2 h)) ∧ (¬ x6 ≤ v3 → (gR h v0 [1] 9 fun x8 =>
  gR h x8 [4] 1 fun x9 =>
  aI h x9 0 v3 fun x10 =>
  gR h v0 [1] 10 fun x11 =>
  gR h x11 [4] 1 fun x12 =>
  aI h x12 0 v3 fun x13 =>
  (¬ x10 = x13 → (w_X1_day_J76 g v0 v3 1 v2 K E L38 h)) ∧ (x10 = x13 → (w_X1_day_J76 g v0 v3 0 v2 K E L38 h))))
def w_X1_day (g : GT) (v0 : Option Nat) (v1 : Int32) (K : Int32 → AH → Prop) (E : Nat → AH → Prop) (h : AH) : Prop :=
  isO h v0 1 ∧ w_X1_anew g v0 (fun _ h =>
  gR h v0 [1] 3 fun x1 =>
  (¬ x1 = none → (isO h v0 1 ∧ w_X1_note g v0 (fun _ h =>
  gR h v0 [1] 9 fun x3 =>
  isO h x3 4 ∧ w_X4_ends g x3 v1 (fun _ h =>
  isO h v0 1 ∧ w_X1_done g v0 (fun x4 h =>
  Lp2 (w_X1_day_L38 g v0 K E) 0 0 h) E0 h) E0 h) E0 h)) ∧ (x1 = none → (isO h v0 1 ∧ w_X1_no g v0 1 (fun x17 h =>
  K x17 h) E0 h))) E0 h
def w_X1_undo_J14 (g : GT) (v0 : Option Nat) (s0 : Int32) (s1 : Option Nat) (K : Int32 → AH → Prop) (E : Nat → AH → Prop) (h : AH) : Prop :=
  isO h s1 1 ∧ w_X1_yes g s1 s0 (fun x3 h =>
  (¬ x3 = 0 → (gI h v0 [1] 8 fun x5 =>
  pV g h v0 [1] 8 (.int (x5 - 1)) fun h =>
  gR h v0 [1] 9 fun x6 =>
  gR h v0 [1] 16 fun x7 =>
  gI h v0 [1] 8 fun x8 =>
  aR h x7 4 x8 fun x9 =>
  isO h x6 4 ∧ w_X4_become g x6 x9 (fun _ h =>
  nz .boolean 1 (K 1 h)) E0 h)) ∧ (x3 = 0 → (nz .boolean 0 (K 0 h)))) E0 h
def w_X1_undo (g : GT) (v0 : Option Nat) (K : Int32 → AH → Prop) (E : Nat → AH → Prop) (h : AH) : Prop :=
  gI h v0 [1] 8 fun x1 =>
  (¬ x1 = 0 → (w_X1_undo_J14 g v0 0 v0 K E h)) ∧ (x1 = 0 → (w_X1_undo_J14 g v0 6 v0 K E h))
def w_X1_mark (g : GT) (v0 : Option Nat) (K : Int32 → AH → Prop) (E : Nat → AH → Prop) (h : AH) : Prop :=
  isO h v0 1 ∧ w_X1_anew g v0 (fun _ h =>
  gR h v0 [1] 3 fun x1 =>
  (¬ x1 = none → (gI h v0 [1] 7 fun x3 =>
  (¬ x3 = 3 → (gR h v0 [1] 17 fun x5 =>
  gI h v0 [1] 7 fun x6 =>
  aR h x5 4 x6 fun x7 =>
  gR h v0 [1] 9 fun x8 =>
  isO h x7 4 ∧ w_X4_become g x7 x8 (fun _ h =>
  gI h v0 [1] 7 fun x9 =>
  pV g h v0 [1] 7 (.int (x9 + 1)) fun h =>
  gI h v0 [1] 7 fun x10 =>
  K (x10 - 1) h) E0 h)) ∧ (x3 = 3 → (isO h v0 1 ∧ w_X1_no g v0 3 (fun x11 h =>
  K x11 h) E0 h)))) ∧ (x1 = none → (isO h v0 1 ∧ w_X1_no g v0 1 (fun x12 h =>
  K x12 h) E0 h))) E0 h
def w_X1_back_J20 (g : GT) (v0 : Option Nat) (v1 : Int32) (s0 : Int32) (s1 : Option Nat) (K : Int32 → AH → Prop) (E : Nat → AH → Prop) (h : AH) : Prop :=
  isO h s1 1 ∧ w_X1_yes g s1 s0 (fun x4 h =>
  (¬ x4 = 0 → (gR h v0 [1] 9 fun x6 =>
  gR h v0 [1] 17 fun x7 =>
  aR h x7 4 v1 fun x8 =>
  isO h x6 4 ∧ w_X4_become g x6 x8 (fun _ h =>
  pV g h v0 [1] 8 (.int 0) fun h =>
  nz .boolean 1 (K 1 h)) E0 h)) ∧ (x4 = 0 → (nz .boolean 0 (K 0 h)))) E0 h
def w_X1_back (g : GT) (v0 : Option Nat) (v1 : Int32) (K : Int32 → AH → Prop) (E : Nat → AH → Prop) (h : AH) : Prop :=
  gI h v0 [1] 7 fun x1 =>
  w_X1_in g v1 0 (x1 - 1) (fun x2 h =>
  (x2 = 0 → (w_X1_back_J20 g v0 v1 1 v0 K E h)) ∧ (¬ x2 = 0 → (w_X1_back_J20 g v0 v1 0 v0 K E h))) E0 h
def w_X1_size (g : GT) (v0 : Option Nat) (v1 : Int32) (K : Int32 → AH → Prop) (E : Nat → AH → Prop) (h : AH) : Prop :=
  (¬ v1 = 10 → (gR h v0 [1] 3 fun x2 =>
  (¬ x2 = none → (swT v1 [(0, gR h v0 [1] 3 fun x5 =>
  gI h x5 [9] 4 fun x6 =>
  K x6 h),
  (1, gR h v0 [1] 3 fun x7 =>
  gI h x7 [9] 5 fun x8 =>
  K x8 h),
  (2, gR h v0 [1] 3 fun x9 =>
  gI h x9 [9] 6 fun x10 =>
  K x10 h),
  (3, gR h v0 [1] 3 fun x11 =>
  gI h x11 [9] 7 fun x12 =>
  K x12 h),
  (4, gR h v0 [1] 3 fun x13 =>
  gI h x13 [9] 8 fun x14 =>
  K x14 h),
  (5, gR h v0 [1] 3 fun x15 =>
  gI h x15 [9] 9 fun x16 =>
  K x16 h),
  (6, gR h v0 [1] 3 fun x17 =>
  gI h x17 [9] 10 fun x18 =>
  K x18 h),
  (7, gR h v0 [1] 9 fun x19 =>
  gI h x19 [4] 3 fun x20 =>
  K x20 h),
  (8, gI h v0 [1] 8 fun x21 =>
  K x21 h),
  (9, gI h v0 [1] 7 fun x22 =>
  K x22 h)] (K (-1) h))) ∧ (x2 = none → (w_X1_in g v1 0 9 (fun x23 h =>
  (x23 = 0 → (K (-1) h)) ∧ (¬ x23 = 0 → (K 0 h))) E0 h)))) ∧ (v1 = 10 → (gI h v0 [1] 1 fun x25 =>
  K x25 h))
def w_X1_trouble (g : GT) (v0 : Option Nat) (K : Int32 → AH → Prop) (E : Nat → AH → Prop) (h : AH) : Prop :=
  gI h v0 [1] 4 fun x1 =>
  K x1 h
def w_X26_init (g : GT) (v0 : Option Nat) (K : Unit → AH → Prop) (E : Nat → AH → Prop) (h : AH) : Prop :=
  ¬ v0 = none ∧ (nA g h 0 6 fun x2 h =>
  pV g h v0 [26] 8 (va_rf x2) fun h =>
  nA g h 0 5 fun x3 h =>
  pV g h v0 [26] 9 (va_rf x3) fun h =>
  nA g h 0 5 fun x4 h =>
  pV g h v0 [26] 10 (va_rf x4) fun h =>
  nA g h 0 5 fun x5 h =>
  pV g h v0 [26] 11 (va_rf x5) fun h =>
  nA g h 0 5 fun x6 h =>
  pV g h v0 [26] 12 (va_rf x6) fun h =>
  nA g h 0 16 fun x7 h =>
  pV g h v0 [26] 13 (va_rf x7) fun h =>
  nA g h 0 16 fun x8 h =>
  pV g h v0 [26] 14 (va_rf x8) fun h =>
  nA g h 0 16 fun x9 h =>
  pV g h v0 [26] 15 (va_rf x9) fun h =>
  nA g h 0 16 fun x10 h =>
  pV g h v0 [26] 16 (va_rf x10) fun h =>
  nA g h 0 6 fun x11 h =>
  pV g h v0 [26] 17 (va_rf x11) fun h =>
  nA g h 0 6 fun x12 h =>
  pV g h v0 [26] 18 (va_rf x12) fun h =>
  nA g h 0 6 fun x13 h =>
  pV g h v0 [26] 19 (va_rf x13) fun h =>
  nA g h 3 11 fun x14 h =>
  pV g h v0 [26] 20 (va_rf x14) fun h =>
  nA g h 0 11 fun x15 h =>
  pV g h v0 [26] 21 (va_rf x15) fun h =>
  nA g h 0 11 fun x16 h =>
  pV g h v0 [26] 22 (va_rf x16) fun h =>
  K () h)
def w_X26_find_L2 (g : GT) (v0 : Option Nat) (v1 : Int64) (K : Int32 → AH → Prop) (E : Nat → AH → Prop) (L2 : Int32 → AH → Prop) (v3 : Int32) (h : AH) : Prop :=
  gI h v0 [26] 7 fun x1 =>
  (x1 ≤ v3 → (K (-1) h)) ∧ (¬ x1 ≤ v3 → (gR h v0 [26] 20 fun x3 =>
  aJ h x3 3 v3 fun x4 =>
  (¬ (lg_cmp x4 v1) = 0 → (nmI (v3 + 1) fun x6 =>
  L2 x6 h)) ∧ ((lg_cmp x4 v1) = 0 → (K v3 h))))
def w_X26_find (g : GT) (v0 : Option Nat) (v1 : Int64) (K : Int32 → AH → Prop) (E : Nat → AH → Prop) (h : AH) : Prop :=
  Lp1 (w_X26_find_L2 g v0 v1 K E) 0 h
def w_X26_areAlike (g : GT) (v0 : Option Nat) (v1 : Int32) (v2 : Int32) (K : Int32 → AH → Prop) (E : Nat → AH → Prop) (h : AH) : Prop :=
  (v1 = v2 → (nz .boolean 0 (K 0 h))) ∧ (¬ v1 = v2 → (gR h v0 [26] 9 fun x2 =>
  aI h x2 0 v1 fun x3 =>
  gR h v0 [26] 9 fun x4 =>
  aI h x4 0 v2 fun x5 =>
  (¬ x3 = x5 → (nz .boolean 0 (K 0 h))) ∧ (x3 = x5 → (gR h v0 [26] 11 fun x7 =>
  aI h x7 0 v1 fun x8 =>
  gR h v0 [26] 11 fun x9 =>
  aI h x9 0 v2 fun x10 =>
  (¬ x8 = x10 → (nz .boolean 0 (K 0 h))) ∧ (x8 = x10 → (nz .boolean 1 (K 1 h)))))))
def w_X8_init (g : GT) (v0 : Option Nat) (K : Unit → AH → Prop) (E : Nat → AH → Prop) (h : AH) : Prop :=
  ¬ v0 = none ∧ (pV g h v0 [8] 2 (.int (-1)) fun h =>
  nA g h 1 1000 fun x2 h =>
  pV g h v0 [8] 5 (va_rf x2) fun h =>
  nA g h 0 11 fun x3 h =>
  pV g h v0 [8] 15 (va_rf x3) fun h =>
  nA g h 0 11 fun x4 h =>
  pV g h v0 [8] 16 (va_rf x4) fun h =>
  nA g h 0 176 fun x5 h =>
  pV g h v0 [8] 17 (va_rf x5) fun h =>
  nA g h 0 33 fun x6 h =>
  pV g h v0 [8] 18 (va_rf x6) fun h =>
  nA g h 0 3 fun x7 h =>
  pV g h v0 [8] 22 (va_rf x7) fun h =>
  nA g h 0 3 fun x8 h =>
  pV g h v0 [8] 23 (va_rf x8) fun h =>
  nA g h 0 6 fun x9 h =>
  pV g h v0 [8] 26 (va_rf x9) fun h =>
  nA g h 0 6 fun x10 h =>
  pV g h v0 [8] 27 (va_rf x10) fun h =>
  nA g h 0 5 fun x11 h =>
  pV g h v0 [8] 28 (va_rf x11) fun h =>
  K () h)
def w_X8_thrown (g : GT) (v0 : Option Nat) (K : Int32 → AH → Prop) (E : Nat → AH → Prop) (h : AH) : Prop :=
  gI h v0 [8] 0 fun x1 =>
  K x1 h
def w_X8_feed_J76 (g : GT) (v0 : Option Nat) (v1 : Int32) (v2 : Int32) (v3 : Int32) (v4 : Int32) (v5 : Int32) (v6 : Int32) (s0 : Int32) (K : Int32 → AH → Prop) (E : Nat → AH → Prop) (L23 : Int32 → AH → Prop) (h : AH) : Prop :=
  gR h v0 [8] 5 fun x9 =>
  gI h v0 [8] 6 fun x10 =>
  sI g h x9 1 x10 (vp_nar .byte ((s0 >>> ((24 - (8 * (v6 - v6 / 4 * 4))) &&& 31)).toInt8.toInt32)) fun h =>
  gI h v0 [8] 6 fun x11 =>
  pV g h v0 [8] 6 (.int (x11 + 1)) fun h =>
  nmI (v6 + 1) fun x12 =>
  L23 x12 h
def w_X8_feed_L23 (g : GT) (v0 : Option Nat) (v1 : Int32) (v2 : Int32) (v3 : Int32) (v4 : Int32) (v5 : Int32) (K : Int32 → AH → Prop) (E : Nat → AH → Prop) (L23 : Int32 → AH → Prop) (v6 : Int32) (h : AH) : Prop :=
  (20 ≤ v6 → (gI h v0 [8] 6 fun x4 =>
  K x4 h)) ∧ (¬ 20 ≤ v6 → ((4 ≤ v6 → ((8 ≤ v6 → ((12 ≤ v6 → ((16 ≤ v6 → (w_X8_feed_J76 g v0 v1 v2 v3 v4 v5 v6 v5 K E L23 h)) ∧ (¬ 16 ≤ v6 → (w_X8_feed_J76 g v0 v1 v2 v3 v4 v5 v6 v4 K E L23 h)))) ∧ (¬ 12 ≤ v6 → (w_X8_feed_J76 g v0 v1 v2 v3 v4 v5 v6 v3 K E L23 h)))) ∧ (¬ 8 ≤ v6 → (w_X8_feed_J76 g v0 v1 v2 v3 v4 v5 v6 v2 K E L23 h)))) ∧ (¬ 4 ≤ v6 → (w_X8_feed_J76 g v0 v1 v2 v3 v4 v5 v6 v1 K E L23 h))))
def w_X8_feed (g : GT) (v0 : Option Nat) (v1 : Int32) (v2 : Int32) (v3 : Int32) (v4 : Int32) (v5 : Int32) (K : Int32 → AH → Prop) (E : Nat → AH → Prop) (h : AH) : Prop :=
  pV g h v0 [8] 0 (.int 0) fun h =>
  gI h v0 [8] 6 fun x1 =>
  ((x1 + 20) ≤ 1000 → (Lp1 (w_X8_feed_L23 g v0 v1 v2 v3 v4 v5 K E) 0 h)) ∧ (¬ (x1 + 20) ≤ 1000 → (K (-1) h))
def w_X8_refused (g : GT) (v0 : Option Nat) (v1 : Int32) (K : Int32 → AH → Prop) (E : Nat → AH → Prop) (h : AH) : Prop :=
  pV g h v0 [8] 1 (.int v1) fun h =>
  pV g h v0 [8] 2 (.int (-1)) fun h =>
  K (-1) h
def w_X8_byteAt (g : GT) (v0 : Option Nat) (v1 : Int32) (K : Int32 → AH → Prop) (E : Nat → AH → Prop) (h : AH) : Prop :=
  gI h v0 [8] 7 fun x1 =>
  (x1 ≤ v1 → (K (-1) h)) ∧ (¬ x1 ≤ v1 → (gR h v0 [8] 5 fun x3 =>
  aI h x3 1 v1 fun x4 =>
  K (x4 &&& 255) h))
def w_X8_isLetter (g : GT) (v0 : Int32) (K : Int32 → AH → Prop) (E : Nat → AH → Prop) (h : AH) : Prop :=
  (v0 < 97 → (nz .boolean 0 (K 0 h))) ∧ (¬ v0 < 97 → ((122 < v0 → (nz .boolean 0 (K 0 h))) ∧ (¬ 122 < v0 → (nz .boolean 1 (K 1 h)))))
def w_X8_isDigit (g : GT) (v0 : Int32) (K : Int32 → AH → Prop) (E : Nat → AH → Prop) (h : AH) : Prop :=
  (v0 < 48 → (nz .boolean 0 (K 0 h))) ∧ (¬ v0 < 48 → ((57 < v0 → (nz .boolean 0 (K 0 h))) ∧ (¬ 57 < v0 → (nz .boolean 1 (K 1 h)))))
def w_X8_goesOn_J215 (g : GT) (v0 : Option Nat) (v2 : Int32) (K : Unit → AH → Prop) (E : Nat → AH → Prop) (L173 : Int32 → AH → Prop) (h : AH) : Prop :=
  nmI (v2 + 1) fun x22 =>
  gI h v0 [8] 8 fun x23 =>
  pV g h v0 [8] 8 (.int (x23 + 1)) fun h =>
  L173 x22 h
def w_X8_goesOn_L173 (g : GT) (v0 : Option Nat) (K : Unit → AH → Prop) (E : Nat → AH → Prop) (L173 : Int32 → AH → Prop) (v2 : Int32) (h : AH) : Prop :=
  gI h v0 [8] 8 fun x16 =>
  isO h v0 8 ∧ w_X8_byteAt g v0 x16 (fun x17 h =>
  w_X8_isDigit g x17 (fun x18 h =>
  (x18 = 0 → ((2 < v2 → (K () h)) ∧ (¬ 2 < v2 → (pV g h v0 [8] 9 (.int 3) fun h =>
  K () h)))) ∧ (¬ x18 = 0 → ((2 ≤ v2 → (w_X8_goesOn_J215 g v0 v2 K E L173 h)) ∧ (¬ 2 ≤ v2 → (gI h v0 [8] 11 fun x24 =>
  gI h v0 [8] 8 fun x25 =>
  isO h v0 8 ∧ w_X8_byteAt g v0 x25 (fun x26 h =>
  pV g h v0 [8] 11 (.int (((10 * x24) + x26) - 48)) fun h =>
  w_X8_goesOn_J215 g v0 v2 K E L173 h) E0 h))))) E0 h) E0 h
def w_X8_goesOn_J131 (g : GT) (v0 : Option Nat) (v2 : Int32) (K : Unit → AH → Prop) (E : Nat → AH → Prop) (L84 : Int32 → AH → Prop) (h : AH) : Prop :=
  nmI (v2 + 1) fun x33 =>
  gI h v0 [8] 8 fun x34 =>
  pV g h v0 [8] 8 (.int (x34 + 1)) fun h =>
  L84 x33 h
def w_X8_goesOn_L84 (g : GT) (v0 : Option Nat) (K : Unit → AH → Prop) (E : Nat → AH → Prop) (L84 : Int32 → AH → Prop) (v2 : Int32) (h : AH) : Prop :=
  gI h v0 [8] 8 fun x27 =>
  isO h v0 8 ∧ w_X8_byteAt g v0 x27 (fun x28 h =>
  w_X8_isLetter g x28 (fun x29 h =>
  (x29 = 0 → ((8 < v2 → (K () h)) ∧ (¬ 8 < v2 → (pV g h v0 [8] 9 (.int 2) fun h =>
  K () h)))) ∧ (¬ x29 = 0 → ((8 ≤ v2 → (w_X8_goesOn_J131 g v0 v2 K E L84 h)) ∧ (¬ 8 ≤ v2 → (gJ h v0 [8] 14 fun x35 =>
  gI h v0 [8] 8 fun x36 =>
  isO h v0 8 ∧ w_X8_byteAt g v0 x36 (fun x37 h =>
  pV g h v0 [8] 14 (.long ((32 * x35) + ((x37 - 97) + 1).toInt64)) fun h =>
  w_X8_goesOn_J131 g v0 v2 K E L84 h) E0 h))))) E0 h) E0 h
def w_X8_goesOn_L9 (g : GT) (v0 : Option Nat) (K : Unit → AH → Prop) (E : Nat → AH → Prop) (L9 : AH → Prop) (h : AH) : Prop :=
  gI h v0 [8] 8 fun x3 =>
  isO h v0 8 ∧ w_X8_byteAt g v0 x3 (fun x4 h =>
  (¬ x4 = 32 → (gI h v0 [8] 8 fun x6 =>
  pV g h v0 [8] 10 (.int x6) fun h =>
  pV g h v0 [8] 9 (.int 0) fun h =>
  gI h v0 [8] 8 fun x7 =>
  isO h v0 8 ∧ w_X8_byteAt g v0 x7 (fun x8 h =>
  (¬ x8 = (-1) → (w_X8_isLetter g x8 (fun x10 h =>
  (x10 = 0 → (w_X8_isDigit g x8 (fun x12 h =>
  (x12 = 0 → ((¬ x8 = 59 → (K () h)) ∧ (x8 = 59 → (pV g h v0 [8] 9 (.int 4) fun h =>
  gI h v0 [8] 8 fun x15 =>
  pV g h v0 [8] 8 (.int (x15 + 1)) fun h =>
  K () h)))) ∧ (¬ x12 = 0 → (pV g h v0 [8] 11 (.int 0) fun h =>
  Lp1 (w_X8_goesOn_L173 g v0 K E) 0 h))) E0 h)) ∧ (¬ x10 = 0 → (pV g h v0 [8] 14 (.long 0) fun h =>
  Lp1 (w_X8_goesOn_L84 g v0 K E) 0 h))) E0 h)) ∧ (x8 = (-1) → (pV g h v0 [8] 9 (.int 1) fun h =>
  K () h))) E0 h)) ∧ (x4 = 32 → (gI h v0 [8] 8 fun x38 =>
  pV g h v0 [8] 8 (.int (x38 + 1)) fun h =>
  L9 h))) E0 h
def w_X8_goesOn (g : GT) (v0 : Option Nat) (K : Unit → AH → Prop) (E : Nat → AH → Prop) (h : AH) : Prop :=
  gI h v0 [8] 9 fun x1 =>
  (¬ x1 = 5 → (Lp0 (w_X8_goesOn_L9 g v0 K E) h)) ∧ (x1 = 5 → (K () h))
def w_J3_coder (g : GT) (v0 : Option Nat) (K : Int32 → AH → Prop) (E : Nat → AH → Prop) (h : AH) : Prop :=
  ((1 : Int32) = 0 → (nz .byte 1 (K 1 h))) ∧ (¬ (1 : Int32) = 0 → (gI h v0 [0] 1 fun x2 =>
  nz .byte x2 (K x2 h)))
def w_J3_length (g : GT) (v0 : Option Nat) (K : Int32 → AH → Prop) (E : Nat → AH → Prop) (h : AH) : Prop :=
  gR h v0 [0] 0 fun x1 =>
  aL h x1 fun x2 =>
  isO h v0 0 ∧ w_J3_coder g v0 (fun x3 h =>
  K (x2 >>> (x3 &&& 31)) h) E0 h
def w_J4_checkIndex_J9 (g : GT) (v0 : Int32) (v1 : Int32) (v2 : Option Nat) (K : Int32 → AH → Prop) (E : Nat → AH → Prop) (h : AH) : Prop :=
  False
def w_J4_checkIndex (g : GT) (v0 : Int32) (v1 : Int32) (v2 : Option Nat) (K : Int32 → AH → Prop) (E : Nat → AH → Prop) (h : AH) : Prop :=
  (v0 < 0 → (w_J4_checkIndex_J9 g v0 v1 v2 K E h)) ∧ (¬ v0 < 0 → ((v0 < v1 → (K v0 h)) ∧ (¬ v0 < v1 → (w_J4_checkIndex_J9 g v0 v1 v2 K E h))))
def w_J3_checkIndex (g : GT) (v0 : Int32) (v1 : Int32) (K : Unit → AH → Prop) (E : Nat → AH → Prop) (h : AH) : Prop :=
  w_J4_checkIndex g v0 v1 (g.2.2.2.2 2) (fun x1 h =>
  K () h) E0 h
def w_J6_charAt (g : GT) (v0 : Option Nat) (v1 : Int32) (K : Int32 → AH → Prop) (E : Nat → AH → Prop) (h : AH) : Prop :=
  aL h v0 fun x1 =>
  w_J3_checkIndex g v1 x1 (fun _ h =>
  aI h v0 1 v1 fun x2 =>
  nz .char (((x2 &&& 255).toUInt32 % 65536).toInt32) (K (((x2 &&& 255).toUInt32 % 65536).toInt32) h)) E0 h
def w_J5_checkIndex (g : GT) (v0 : Int32) (v1 : Option Nat) (K : Unit → AH → Prop) (E : Nat → AH → Prop) (h : AH) : Prop :=
  w_J5_length g v1 (fun x1 h =>
  w_J3_checkIndex g v0 x1 (fun _ h =>
  K () h) E0 h) E0 h
def w_J5_charAt (g : GT) (v0 : Option Nat) (v1 : Int32) (K : Int32 → AH → Prop) (E : Nat → AH → Prop) (h : AH) : Prop :=
  w_J5_checkIndex g v1 v0 (fun _ h =>
  w_J5_getChar g v0 v1 (fun x1 h =>
  nz .char x1 (K x1 h)) E0 h) E0 h
def w_J3_charAt (g : GT) (v0 : Option Nat) (v1 : Int32) (K : Int32 → AH → Prop) (E : Nat → AH → Prop) (h : AH) : Prop :=
  isO h v0 0 ∧ w_J3_isLatin1 g v0 (fun x1 h =>
  (x1 = 0 → (gR h v0 [0] 0 fun x3 =>
  w_J5_charAt g x3 v1 (fun x4 h =>
  nz .char x4 (K x4 h)) E0 h)) ∧ (¬ x1 = 0 → (gR h v0 [0] 0 fun x5 =>
  w_J6_charAt g x5 v1 (fun x6 h =>
  nz .char x6 (K x6 h)) E0 h))) E0 h
def w_X8_packed_L4 (g : GT) (v0 : Option Nat) (K : Int64 → AH → Prop) (E : Nat → AH → Prop) (L4 : Int64 → Int32 → AH → Prop) (v1 : Int64) (v3 : Int32) (h : AH) : Prop :=
  isO h v0 0 ∧ w_J3_length g v0 (fun x1 h =>
  (x1 ≤ v3 → (K v1 h)) ∧ (¬ x1 ≤ v3 → (isO h v0 0 ∧ w_J3_charAt g v0 v3 (fun x3 h =>
  nmJ ((32 * v1) + ((x3 - 97) + 1).toInt64) fun x4 =>
  nmI (v3 + 1) fun x5 =>
  L4 x4 x5 h) E0 h))) E0 h
def w_X8_packed (g : GT) (v0 : Option Nat) (K : Int64 → AH → Prop) (E : Nat → AH → Prop) (h : AH) : Prop :=
  Lp2 (w_X8_packed_L4 g v0 K E) 0 0 h
def w_X8_isWord (g : GT) (v0 : Option Nat) (v1 : Option Nat) (K : Int32 → AH → Prop) (E : Nat → AH → Prop) (h : AH) : Prop :=
  gI h v0 [8] 9 fun x1 =>
  (¬ x1 = 2 → (nz .boolean 0 (K 0 h))) ∧ (x1 = 2 → (gJ h v0 [8] 14 fun x3 =>
  w_X8_packed g v1 (fun x4 h =>
  (¬ (lg_cmp x3 x4) = 0 → (nz .boolean 0 (K 0 h))) ∧ ((lg_cmp x3 x4) = 0 → (nz .boolean 1 (K 1 h)))) E0 h))
def w_X8_flaw (g : GT) (v0 : Option Nat) (v1 : Int32) (K : Unit → AH → Prop) (E : Nat → AH → Prop) (h : AH) : Prop :=
  gI h v0 [8] 9 fun x1 =>
  (¬ x1 = 5 → (pV g h v0 [8] 12 (.int v1) fun h =>
  gI h v0 [8] 10 fun x3 =>
  pV g h v0 [8] 13 (.int x3) fun h =>
  pV g h v0 [8] 9 (.int 5) fun h =>
  K () h)) ∧ (x1 = 5 → (K () h))
def w_X8_needs_J13 (g : GT) (v0 : Option Nat) (K : Unit → AH → Prop) (E : Nat → AH → Prop) (h : AH) : Prop :=
  isO h v0 8 ∧ w_X8_goesOn g v0 (fun _ h =>
  K () h) E0 h
def w_X8_needs (g : GT) (v0 : Option Nat) (v1 : Option Nat) (K : Unit → AH → Prop) (E : Nat → AH → Prop) (h : AH) : Prop :=
  isO h v0 8 ∧ w_X8_isWord g v0 v1 (fun x1 h =>
  (¬ x1 = 0 → (w_X8_needs_J13 g v0 K E h)) ∧ (x1 = 0 → (isO h v0 8 ∧ w_X8_flaw g v0 1 (fun _ h =>
  w_X8_needs_J13 g v0 K E h) E0 h))) E0 h
def w_X8_in (g : GT) (v0 : Int32) (v1 : Int32) (v2 : Int32) (K : Int32 → AH → Prop) (E : Nat → AH → Prop) (h : AH) : Prop :=
  (v0 < v1 → (nz .boolean 0 (K 0 h))) ∧ (¬ v0 < v1 → ((v2 < v0 → (nz .boolean 0 (K 0 h))) ∧ (¬ v2 < v0 → (nz .boolean 1 (K 1 h)))))
def w_X8_readWhole_J49 (g : GT) (v0 : Option Nat) (s0 : Int32) (K : Int32 → AH → Prop) (E : Nat → AH → Prop) (h : AH) : Prop :=
  isO h v0 8 ∧ w_X8_goesOn g v0 (fun _ h =>
  K s0 h) E0 h
def w_X8_readWhole_J33 (g : GT) (v0 : Option Nat) (v1 : Int32) (K : Int32 → AH → Prop) (E : Nat → AH → Prop) (h : AH) : Prop :=
  gI h v0 [8] 9 fun x6 =>
  (¬ x6 = 5 → (gI h v0 [8] 11 fun x8 =>
  w_X8_readWhole_J49 g v0 x8 K E h)) ∧ (x6 = 5 → (w_X8_readWhole_J49 g v0 v1 K E h))
def w_X8_readWhole (g : GT) (v0 : Option Nat) (v1 : Int32) (v2 : Int32) (K : Int32 → AH → Prop) (E : Nat → AH → Prop) (h : AH) : Prop :=
  gI h v0 [8] 9 fun x1 =>
  (x1 = 3 → (gI h v0 [8] 11 fun x3 =>
  w_X8_in g x3 v1 v2 (fun x4 h =>
  (¬ x4 = 0 → (w_X8_readWhole_J33 g v0 v1 K E h)) ∧ (x4 = 0 → (isO h v0 8 ∧ w_X8_flaw g v0 4 (fun _ h =>
  w_X8_readWhole_J33 g v0 v1 K E h) E0 h))) E0 h)) ∧ (¬ x1 = 3 → (isO h v0 8 ∧ w_X8_flaw g v0 1 (fun _ h =>
  w_X8_readWhole_J33 g v0 v1 K E h) E0 h))
def w_X8_readPart (g : GT) (v0 : Option Nat) (v1 : Option Nat) (v2 : Int32) (v3 : Int32) (K : Int32 → AH → Prop) (E : Nat → AH → Prop) (h : AH) : Prop :=
  isO h v0 8 ∧ w_X8_needs g v0 v1 (fun _ h =>
  isO h v0 8 ∧ w_X8_readWhole g v0 v2 v3 (fun x1 h =>
  K x1 h) E0 h) E0 h
def w_X8_readCounty_J15 (g : GT) (v0 : Option Nat) (K : Unit → AH → Prop) (E : Nat → AH → Prop) (h : AH) : Prop :=
  isO h v0 8 ∧ w_X8_goesOn g v0 (fun _ h =>
  isO h v0 8 ∧ w_X8_readPart g v0 (some (g.2.2.2.1 9)) 1 30 (fun x4 h =>
  isO h v0 8 ∧ w_X8_readPart g v0 (some (g.2.2.2.1 10)) 0 99 (fun x5 h =>
  isO h v0 8 ∧ w_X8_readPart g v0 (some (g.2.2.2.1 11)) 0 99 (fun x6 h =>
  gI h v0 [8] 9 fun x7 =>
  (¬ x7 = 5 → (gR h v0 [8] 4 fun x9 =>
  pV g h x9 [26] 0 (.int x4) fun h =>
  gR h v0 [8] 4 fun x10 =>
  pV g h x10 [26] 1 (.int x5) fun h =>
  gR h v0 [8] 4 fun x11 =>
  pV g h x11 [26] 2 (.int x6) fun h =>
  K () h)) ∧ (x7 = 5 → (K () h))) E0 h) E0 h) E0 h) E0 h
def w_X8_readCounty (g : GT) (v0 : Option Nat) (K : Unit → AH → Prop) (E : Nat → AH → Prop) (h : AH) : Prop :=
  gR h v0 [8] 4 fun x1 =>
  gI h x1 [26] 0 fun x2 =>
  (x2 ≤ 0 → (w_X8_readCounty_J15 g v0 K E h)) ∧ (¬ x2 ≤ 0 → (isO h v0 8 ∧ w_X8_flaw g v0 3 (fun _ h =>
  w_X8_readCounty_J15 g v0 K E h) E0 h))
def w_X8_lineBegins_J26 (g : GT) (v0 : Option Nat) (K : Unit → AH → Prop) (E : Nat → AH → Prop) (h : AH) : Prop :=
  isO h v0 8 ∧ w_X8_goesOn g v0 (fun _ h =>
  K () h) E0 h
def w_X8_lineBegins_J10 (g : GT) (v0 : Option Nat) (K : Unit → AH → Prop) (E : Nat → AH → Prop) (h : AH) : Prop :=
  gR h v0 [8] 4 fun x2 =>
  gI h x2 [26] 0 fun x3 =>
  (¬ x3 = 0 → (w_X8_lineBegins_J26 g v0 K E h)) ∧ (x3 = 0 → (isO h v0 8 ∧ w_X8_flaw g v0 6 (fun _ h =>
  w_X8_lineBegins_J26 g v0 K E h) E0 h))
def w_X8_lineBegins (g : GT) (v0 : Option Nat) (v1 : Int32) (v2 : Int32) (K : Unit → AH → Prop) (E : Nat → AH → Prop) (h : AH) : Prop :=
  (¬ v1 = v2 → (w_X8_lineBegins_J10 g v0 K E h)) ∧ (v1 = v2 → (isO h v0 8 ∧ w_X8_flaw g v0 5 (fun _ h =>
  w_X8_lineBegins_J10 g v0 K E h) E0 h))
def w_X8_isName (g : GT) (v0 : Option Nat) (K : Int32 → AH → Prop) (E : Nat → AH → Prop) (h : AH) : Prop :=
  gI h v0 [8] 9 fun x1 =>
  (¬ x1 = 2 → (nz .boolean 0 (K 0 h))) ∧ (x1 = 2 → (isO h v0 8 ∧ w_X8_isWord g v0 (some (g.2.2.2.1 1)) (fun x3 h =>
  (¬ x3 = 0 → (nz .boolean 0 (K 0 h))) ∧ (x3 = 0 → (isO h v0 8 ∧ w_X8_isWord g v0 (some (g.2.2.2.1 2)) (fun x5 h =>
  (¬ x5 = 0 → (nz .boolean 0 (K 0 h))) ∧ (x5 = 0 → (isO h v0 8 ∧ w_X8_isWord g v0 (some (g.2.2.2.1 3)) (fun x7 h =>
  (¬ x7 = 0 → (nz .boolean 0 (K 0 h))) ∧ (x7 = 0 → (isO h v0 8 ∧ w_X8_isWord g v0 (some (g.2.2.2.1 4)) (fun x9 h =>
  (x9 = 0 → (isO h v0 8 ∧ w_X8_isWord g v0 (some (g.2.2.2.1 5)) (fun x11 h =>
  (¬ x11 = 0 → (nz .boolean 0 (K 0 h))) ∧ (x11 = 0 → (isO h v0 8 ∧ w_X8_isWord g v0 (some (g.2.2.2.1 6)) (fun x13 h =>
  (¬ x13 = 0 → (nz .boolean 0 (K 0 h))) ∧ (x13 = 0 → (isO h v0 8 ∧ w_X8_isWord g v0 (some (g.2.2.2.1 7)) (fun x15 h =>
  (¬ x15 = 0 → (nz .boolean 0 (K 0 h))) ∧ (x15 = 0 → (isO h v0 8 ∧ w_X8_isWord g v0 (some (g.2.2.2.1 8)) (fun x17 h =>
  (¬ x17 = 0 → (nz .boolean 0 (K 0 h))) ∧ (x17 = 0 → (nz .boolean 1 (K 1 h)))) E0 h))) E0 h))) E0 h))) E0 h)) ∧ (¬ x9 = 0 → (nz .boolean 0 (K 0 h)))) E0 h))) E0 h))) E0 h))) E0 h))
def w_X8_readFresh_J32 (g : GT) (v0 : Option Nat) (K : Int64 → AH → Prop) (E : Nat → AH → Prop) (h : AH) : Prop :=
  gJ h v0 [8] 14 fun x7 =>
  isO h v0 8 ∧ w_X8_goesOn g v0 (fun _ h =>
  K x7 h) E0 h
def w_X8_readFresh_J12 (g : GT) (v0 : Option Nat) (K : Int64 → AH → Prop) (E : Nat → AH → Prop) (h : AH) : Prop :=
  gR h v0 [8] 4 fun x3 =>
  gJ h v0 [8] 14 fun x4 =>
  isO h x3 26 ∧ w_X26_find g x3 x4 (fun x5 h =>
  (x5 = (-1) → (w_X8_readFresh_J32 g v0 K E h)) ∧ (¬ x5 = (-1) → (isO h v0 8 ∧ w_X8_flaw g v0 3 (fun _ h =>
  w_X8_readFresh_J32 g v0 K E h) E0 h))) E0 h
def w_X8_readFresh (g : GT) (v0 : Option Nat) (K : Int64 → AH → Prop) (E : Nat → AH → Prop) (h : AH) : Prop :=
  isO h v0 8 ∧ w_X8_isName g v0 (fun x1 h =>
  (¬ x1 = 0 → (w_X8_readFresh_J12 g v0 K E h)) ∧ (x1 = 0 → (isO h v0 8 ∧ w_X8_flaw g v0 1 (fun _ h =>
  w_X8_readFresh_J12 g v0 K E h) E0 h))) E0 h
def w_X8_names (g : GT) (v0 : Option Nat) (v1 : Int64) (v3 : Int32) (v4 : Int32) (K : Unit → AH → Prop) (E : Nat → AH → Prop) (h : AH) : Prop :=
  gR h v0 [8] 4 fun x1 =>
  gR h x1 [26] 20 fun x2 =>
  gR h v0 [8] 4 fun x3 =>
  gI h x3 [26] 7 fun x4 =>
  sJ g h x2 3 x4 v1 fun h =>
  gR h v0 [8] 4 fun x5 =>
  gR h x5 [26] 21 fun x6 =>
  gR h v0 [8] 4 fun x7 =>
  gI h x7 [26] 7 fun x8 =>
  sI g h x6 0 x8 v3 fun h =>
  gR h v0 [8] 4 fun x9 =>
  gR h x9 [26] 22 fun x10 =>
  gR h v0 [8] 4 fun x11 =>
  gI h x11 [26] 7 fun x12 =>
  sI g h x10 0 x12 v4 fun h =>
  gR h v0 [8] 4 fun x13 =>
  gI h x13 [26] 7 fun x14 =>
  pV g h x13 [26] 7 (.int (x14 + 1)) fun h =>
  K () h
def w_X8_readPerson_J69 (g : GT) (v0 : Option Nat) (v1 : Int64) (v3 : Int32) (K : Unit → AH → Prop) (E : Nat → AH → Prop) (h : AH) : Prop :=
  isO h v0 8 ∧ w_X8_goesOn g v0 (fun _ h =>
  gI h v0 [8] 9 fun x11 =>
  (¬ x11 = 5 → (gR h v0 [8] 4 fun x13 =>
  gI h x13 [26] 3 fun x14 =>
  isO h v0 8 ∧ w_X8_names g v0 v1 0 x14 (fun _ h =>
  gR h v0 [8] 4 fun x15 =>
  gR h x15 [26] 8 fun x16 =>
  gR h v0 [8] 4 fun x17 =>
  gI h x17 [26] 3 fun x18 =>
  sI g h x16 0 x18 v3 fun h =>
  gR h v0 [8] 4 fun x19 =>
  gI h x19 [26] 3 fun x20 =>
  pV g h x19 [26] 3 (.int (x20 + 1)) fun h =>
  K () h) E0 h)) ∧ (x11 = 5 → (K () h))) E0 h
def w_X8_readPerson_J58 (g : GT) (v0 : Option Nat) (v1 : Int64) (s0 : Int32) (K : Unit → AH → Prop) (E : Nat → AH → Prop) (h : AH) : Prop :=
  (¬ s0 = (-1) → (w_X8_readPerson_J69 g v0 v1 s0 K E h)) ∧ (s0 = (-1) → (isO h v0 8 ∧ w_X8_flaw g v0 1 (fun _ h =>
  w_X8_readPerson_J69 g v0 v1 s0 K E h) E0 h))
def w_X8_readPerson (g : GT) (v0 : Option Nat) (K : Unit → AH → Prop) (E : Nat → AH → Prop) (h : AH) : Prop :=
  gR h v0 [8] 4 fun x1 =>
  gI h x1 [26] 3 fun x2 =>
  isO h v0 8 ∧ w_X8_lineBegins g v0 x2 6 (fun _ h =>
  isO h v0 8 ∧ w_X8_readFresh g v0 (fun x3 h =>
  isO h v0 8 ∧ w_X8_isWord g v0 (some (g.2.2.2.1 12)) (fun x4 h =>
  (x4 = 0 → (isO h v0 8 ∧ w_X8_isWord g v0 (some (g.2.2.2.1 13)) (fun x6 h =>
  (x6 = 0 → (isO h v0 8 ∧ w_X8_isWord g v0 (some (g.2.2.2.1 14)) (fun x8 h =>
  (x8 = 0 → (w_X8_readPerson_J58 g v0 x3 (-1) K E h)) ∧ (¬ x8 = 0 → (w_X8_readPerson_J58 g v0 x3 2 K E h))) E0 h)) ∧ (¬ x6 = 0 → (w_X8_readPerson_J58 g v0 x3 1 K E h))) E0 h)) ∧ (¬ x4 = 0 → (w_X8_readPerson_J58 g v0 x3 0 K E h))) E0 h) E0 h) E0 h
def w_X8_knownOne_J47 (g : GT) (v0 : Option Nat) (v2 : Int32) (K : Int32 → AH → Prop) (E : Nat → AH → Prop) (h : AH) : Prop :=
  gI h v0 [8] 9 fun x7 =>
  (¬ x7 = 5 → (gR h v0 [8] 4 fun x9 =>
  gR h x9 [26] 22 fun x10 =>
  aI h x10 0 v2 fun x11 =>
  K x11 h)) ∧ (x7 = 5 → (K 0 h))
def w_X8_knownOne_J42 (g : GT) (v0 : Option Nat) (v2 : Int32) (K : Int32 → AH → Prop) (E : Nat → AH → Prop) (h : AH) : Prop :=
  isO h v0 8 ∧ w_X8_flaw g v0 2 (fun _ h =>
  w_X8_knownOne_J47 g v0 v2 K E h) E0 h
def w_X8_knownOne_J12 (g : GT) (v0 : Option Nat) (v1 : Int32) (K : Int32 → AH → Prop) (E : Nat → AH → Prop) (h : AH) : Prop :=
  gR h v0 [8] 4 fun x3 =>
  gJ h v0 [8] 14 fun x4 =>
  isO h x3 26 ∧ w_X26_find g x3 x4 (fun x5 h =>
  (x5 = (-1) → (w_X8_knownOne_J42 g v0 x5 K E h)) ∧ (¬ x5 = (-1) → (gR h v0 [8] 4 fun x12 =>
  gR h x12 [26] 21 fun x13 =>
  aI h x13 0 x5 fun x14 =>
  (x14 = v1 → (w_X8_knownOne_J47 g v0 x5 K E h)) ∧ (¬ x14 = v1 → (w_X8_knownOne_J42 g v0 x5 K E h))))) E0 h
def w_X8_knownOne (g : GT) (v0 : Option Nat) (v1 : Int32) (K : Int32 → AH → Prop) (E : Nat → AH → Prop) (h : AH) : Prop :=
  isO h v0 8 ∧ w_X8_isName g v0 (fun x1 h =>
  (¬ x1 = 0 → (w_X8_knownOne_J12 g v0 v1 K E h)) ∧ (x1 = 0 → (isO h v0 8 ∧ w_X8_flaw g v0 1 (fun _ h =>
  w_X8_knownOne_J12 g v0 v1 K E h) E0 h))) E0 h
def w_X8_readKnown (g : GT) (v0 : Option Nat) (v1 : Int32) (K : Int32 → AH → Prop) (E : Nat → AH → Prop) (h : AH) : Prop :=
  isO h v0 8 ∧ w_X8_knownOne g v0 v1 (fun x1 h =>
  isO h v0 8 ∧ w_X8_goesOn g v0 (fun _ h =>
  K x1 h) E0 h) E0 h
def w_X8_readUmbrella_J136 (g : GT) (v0 : Option Nat) (v1 : Int64) (v3 : Int32) (v4 : Int32) (v5 : Int32) (v6 : Int32) (K : Unit → AH → Prop) (E : Nat → AH → Prop) (h : AH) : Prop :=
  gI h v0 [8] 9 fun x17 =>
  (¬ x17 = 5 → (gR h v0 [8] 4 fun x19 =>
  gI h x19 [26] 4 fun x20 =>
  isO h v0 8 ∧ w_X8_names g v0 v1 1 x20 (fun _ h =>
  gR h v0 [8] 4 fun x21 =>
  gR h x21 [26] 9 fun x22 =>
  sI g h x22 0 x20 v3 fun h =>
  gR h v0 [8] 4 fun x23 =>
  gR h x23 [26] 10 fun x24 =>
  sI g h x24 0 x20 v4 fun h =>
  gR h v0 [8] 4 fun x25 =>
  gR h x25 [26] 11 fun x26 =>
  sI g h x26 0 x20 v5 fun h =>
  gR h v0 [8] 4 fun x27 =>
  gR h x27 [26] 12 fun x28 =>
  sI g h x28 0 x20 v6 fun h =>
  gR h v0 [8] 4 fun x29 =>
  gI h x29 [26] 4 fun x30 =>
  pV g h x29 [26] 4 (.int (x30 + 1)) fun h =>
  K () h) E0 h)) ∧ (x17 = 5 → (K () h))
def w_X8_readUmbrella_J83 (g : GT) (v0 : Option Nat) (v1 : Int64) (v3 : Int32) (K : Unit → AH → Prop) (E : Nat → AH → Prop) (h : AH) : Prop :=
  isO h v0 8 ∧ w_X8_goesOn g v0 (fun _ h =>
  isO h v0 8 ∧ w_X8_readPart g v0 (some (g.2.2.2.1 19)) 0 99 (fun x13 h =>
  isO h v0 8 ∧ w_X8_readPart g v0 (some (g.2.2.2.1 20)) 4 12 (fun x14 h =>
  isO h v0 8 ∧ w_X8_isWord g v0 (some (g.2.2.2.1 21)) (fun x15 h =>
  (x15 = 0 → (w_X8_readUmbrella_J136 g v0 v1 v3 x13 x14 (-2) K E h)) ∧ (¬ x15 = 0 → (isO h v0 8 ∧ w_X8_goesOn g v0 (fun _ h =>
  isO h v0 8 ∧ w_X8_readKnown g v0 0 (fun x31 h =>
  w_X8_readUmbrella_J136 g v0 v1 v3 x13 x14 x31 K E h) E0 h) E0 h))) E0 h) E0 h) E0 h) E0 h
def w_X8_readUmbrella_J72 (g : GT) (v0 : Option Nat) (v1 : Int64) (s0 : Int32) (K : Unit → AH → Prop) (E : Nat → AH → Prop) (h : AH) : Prop :=
  (¬ s0 = (-1) → (w_X8_readUmbrella_J83 g v0 v1 s0 K E h)) ∧ (s0 = (-1) → (isO h v0 8 ∧ w_X8_flaw g v0 1 (fun _ h =>
  w_X8_readUmbrella_J83 g v0 v1 s0 K E h) E0 h))
def w_X8_readUmbrella (g : GT) (v0 : Option Nat) (K : Unit → AH → Prop) (E : Nat → AH → Prop) (h : AH) : Prop :=
  gR h v0 [8] 4 fun x1 =>
  gI h x1 [26] 4 fun x2 =>
  isO h v0 8 ∧ w_X8_lineBegins g v0 x2 5 (fun _ h =>
  isO h v0 8 ∧ w_X8_readFresh g v0 (fun x3 h =>
  isO h v0 8 ∧ w_X8_isWord g v0 (some (g.2.2.2.1 15)) (fun x4 h =>
  (x4 = 0 → (isO h v0 8 ∧ w_X8_isWord g v0 (some (g.2.2.2.1 16)) (fun x6 h =>
  (x6 = 0 → (isO h v0 8 ∧ w_X8_isWord g v0 (some (g.2.2.2.1 17)) (fun x8 h =>
  (x8 = 0 → (isO h v0 8 ∧ w_X8_isWord g v0 (some (g.2.2.2.1 18)) (fun x10 h =>
  (x10 = 0 → (w_X8_readUmbrella_J72 g v0 x3 (-1) K E h)) ∧ (¬ x10 = 0 → (w_X8_readUmbrella_J72 g v0 x3 3 K E h))) E0 h)) ∧ (¬ x8 = 0 → (w_X8_readUmbrella_J72 g v0 x3 2 K E h))) E0 h)) ∧ (¬ x6 = 0 → (w_X8_readUmbrella_J72 g v0 x3 1 K E h))) E0 h)) ∧ (¬ x4 = 0 → (w_X8_readUmbrella_J72 g v0 x3 0 K E h))) E0 h) E0 h) E0 h
def w_X8_logs_J31 (g : GT) (v0 : Option Nat) (v1 : Int32) (v2 : Int32) (v3 : Int32) (s0 : Int32) (K : Unit → AH → Prop) (E : Nat → AH → Prop) (h : AH) : Prop :=
  isO h v0 8 ∧ w_X8_readPart g v0 (some (g.2.2.2.1 22)) s0 40 (fun x9 h =>
  gI h v0 [8] 9 fun x10 =>
  (¬ x10 = 5 → (gR h v0 [8] 4 fun x12 =>
  gR h x12 [26] 13 fun x13 =>
  gR h v0 [8] 4 fun x14 =>
  gI h x14 [26] 5 fun x15 =>
  sI g h x13 0 x15 v1 fun h =>
  gR h v0 [8] 4 fun x16 =>
  gR h x16 [26] 14 fun x17 =>
  gR h v0 [8] 4 fun x18 =>
  gI h x18 [26] 5 fun x19 =>
  sI g h x17 0 x19 v2 fun h =>
  gR h v0 [8] 4 fun x20 =>
  gR h x20 [26] 15 fun x21 =>
  gR h v0 [8] 4 fun x22 =>
  gI h x22 [26] 5 fun x23 =>
  sI g h x21 0 x23 v3 fun h =>
  gR h v0 [8] 4 fun x24 =>
  gR h x24 [26] 16 fun x25 =>
  gR h v0 [8] 4 fun x26 =>
  gI h x26 [26] 5 fun x27 =>
  sI g h x25 0 x27 x9 fun h =>
  gR h v0 [8] 4 fun x28 =>
  gI h x28 [26] 5 fun x29 =>
  pV g h x28 [26] 5 (.int (x29 + 1)) fun h =>
  K () h)) ∧ (x10 = 5 → (K () h))) E0 h
def w_X8_logs (g : GT) (v0 : Option Nat) (v1 : Int32) (v2 : Int32) (v3 : Int32) (K : Unit → AH → Prop) (E : Nat → AH → Prop) (h : AH) : Prop :=
  gR h v0 [8] 4 fun x1 =>
  gI h x1 [26] 5 fun x2 =>
  (¬ x2 = 0 → (gR h v0 [8] 4 fun x4 =>
  gR h x4 [26] 16 fun x5 =>
  gR h v0 [8] 4 fun x6 =>
  gI h x6 [26] 5 fun x7 =>
  aI h x5 0 (x7 - 1) fun x8 =>
  w_X8_logs_J31 g v0 v1 v2 v3 x8 K E h)) ∧ (x2 = 0 → (w_X8_logs_J31 g v0 v1 v2 v3 0 K E h))
def w_X8_readLent (g : GT) (v0 : Option Nat) (K : Unit → AH → Prop) (E : Nat → AH → Prop) (h : AH) : Prop :=
  gR h v0 [8] 4 fun x1 =>
  gI h x1 [26] 5 fun x2 =>
  isO h v0 8 ∧ w_X8_lineBegins g v0 x2 16 (fun _ h =>
  isO h v0 8 ∧ w_X8_readKnown g v0 1 (fun x3 h =>
  isO h v0 8 ∧ w_X8_readKnown g v0 0 (fun x4 h =>
  isO h v0 8 ∧ w_X8_logs g v0 0 x3 x4 (fun _ h =>
  K () h) E0 h) E0 h) E0 h) E0 h
def w_X8_readLeft (g : GT) (v0 : Option Nat) (K : Unit → AH → Prop) (E : Nat → AH → Prop) (h : AH) : Prop :=
  gR h v0 [8] 4 fun x1 =>
  gI h x1 [26] 5 fun x2 =>
  isO h v0 8 ∧ w_X8_lineBegins g v0 x2 16 (fun _ h =>
  isO h v0 8 ∧ w_X8_readKnown g v0 1 (fun x3 h =>
  isO h v0 8 ∧ w_X8_logs g v0 1 x3 0 (fun _ h =>
  K () h) E0 h) E0 h) E0 h
def w_X8_readChanged_J43 (g : GT) (v0 : Option Nat) (v1 : Int32) (v2 : Int32) (K : Unit → AH → Prop) (E : Nat → AH → Prop) (h : AH) : Prop :=
  isO h v0 8 ∧ w_X8_goesOn g v0 (fun _ h =>
  isO h v0 8 ∧ w_X8_logs g v0 2 v1 v2 (fun _ h =>
  K () h) E0 h) E0 h
def w_X8_readChanged (g : GT) (v0 : Option Nat) (K : Unit → AH → Prop) (E : Nat → AH → Prop) (h : AH) : Prop :=
  gR h v0 [8] 4 fun x1 =>
  gI h x1 [26] 5 fun x2 =>
  isO h v0 8 ∧ w_X8_lineBegins g v0 x2 16 (fun _ h =>
  isO h v0 8 ∧ w_X8_readKnown g v0 1 (fun x3 h =>
  isO h v0 8 ∧ w_X8_knownOne g v0 1 (fun x4 h =>
  gI h v0 [8] 9 fun x5 =>
  (x5 = 5 → (w_X8_readChanged_J43 g v0 x3 x4 K E h)) ∧ (¬ x5 = 5 → ((¬ x3 = x4 → (w_X8_readChanged_J43 g v0 x3 x4 K E h)) ∧ (x3 = x4 → (isO h v0 8 ∧ w_X8_flaw g v0 3 (fun _ h =>
  w_X8_readChanged_J43 g v0 x3 x4 K E h) E0 h))))) E0 h) E0 h) E0 h
def w_X8_readRain (g : GT) (v0 : Option Nat) (K : Unit → AH → Prop) (E : Nat → AH → Prop) (h : AH) : Prop :=
  gR h v0 [8] 4 fun x1 =>
  gI h x1 [26] 5 fun x2 =>
  isO h v0 8 ∧ w_X8_lineBegins g v0 x2 16 (fun _ h =>
  isO h v0 8 ∧ w_X8_logs g v0 3 0 0 (fun _ h =>
  K () h) E0 h) E0 h
def w_X8_readClaims (g : GT) (v0 : Option Nat) (K : Unit → AH → Prop) (E : Nat → AH → Prop) (h : AH) : Prop :=
  gR h v0 [8] 4 fun x1 =>
  gI h x1 [26] 6 fun x2 =>
  isO h v0 8 ∧ w_X8_lineBegins g v0 x2 6 (fun _ h =>
  isO h v0 8 ∧ w_X8_readKnown g v0 0 (fun x3 h =>
  isO h v0 8 ∧ w_X8_readKnown g v0 1 (fun x4 h =>
  isO h v0 8 ∧ w_X8_readPart g v0 (some (g.2.2.2.1 22)) 0 40 (fun x5 h =>
  gI h v0 [8] 9 fun x6 =>
  (¬ x6 = 5 → (gR h v0 [8] 4 fun x8 =>
  gR h x8 [26] 17 fun x9 =>
  gR h v0 [8] 4 fun x10 =>
  gI h x10 [26] 6 fun x11 =>
  sI g h x9 0 x11 x3 fun h =>
  gR h v0 [8] 4 fun x12 =>
  gR h x12 [26] 18 fun x13 =>
  gR h v0 [8] 4 fun x14 =>
  gI h x14 [26] 6 fun x15 =>
  sI g h x13 0 x15 x4 fun h =>
  gR h v0 [8] 4 fun x16 =>
  gR h x16 [26] 19 fun x17 =>
  gR h v0 [8] 4 fun x18 =>
  gI h x18 [26] 6 fun x19 =>
  sI g h x17 0 x19 x5 fun h =>
  gR h v0 [8] 4 fun x20 =>
  gI h x20 [26] 6 fun x21 =>
  pV g h x20 [26] 6 (.int (x21 + 1)) fun h =>
  K () h)) ∧ (x6 = 5 → (K () h))) E0 h) E0 h) E0 h) E0 h
def w_X8_readLine (g : GT) (v0 : Option Nat) (K : Unit → AH → Prop) (E : Nat → AH → Prop) (h : AH) : Prop :=
  isO h v0 8 ∧ w_X8_isWord g v0 (some (g.2.2.2.1 1)) (fun x1 h =>
  (x1 = 0 → (isO h v0 8 ∧ w_X8_isWord g v0 (some (g.2.2.2.1 2)) (fun x3 h =>
  (x3 = 0 → (isO h v0 8 ∧ w_X8_isWord g v0 (some (g.2.2.2.1 3)) (fun x5 h =>
  (x5 = 0 → (isO h v0 8 ∧ w_X8_isWord g v0 (some (g.2.2.2.1 4)) (fun x7 h =>
  (x7 = 0 → (isO h v0 8 ∧ w_X8_isWord g v0 (some (g.2.2.2.1 5)) (fun x9 h =>
  (x9 = 0 → (isO h v0 8 ∧ w_X8_isWord g v0 (some (g.2.2.2.1 6)) (fun x11 h =>
  (x11 = 0 → (isO h v0 8 ∧ w_X8_isWord g v0 (some (g.2.2.2.1 7)) (fun x13 h =>
  (x13 = 0 → (isO h v0 8 ∧ w_X8_isWord g v0 (some (g.2.2.2.1 8)) (fun x15 h =>
  (x15 = 0 → (isO h v0 8 ∧ w_X8_flaw g v0 1 (fun _ h =>
  K () h) E0 h)) ∧ (¬ x15 = 0 → (isO h v0 8 ∧ w_X8_readClaims g v0 (fun _ h =>
  K () h) E0 h))) E0 h)) ∧ (¬ x13 = 0 → (isO h v0 8 ∧ w_X8_readRain g v0 (fun _ h =>
  K () h) E0 h))) E0 h)) ∧ (¬ x11 = 0 → (isO h v0 8 ∧ w_X8_readChanged g v0 (fun _ h =>
  K () h) E0 h))) E0 h)) ∧ (¬ x9 = 0 → (isO h v0 8 ∧ w_X8_readLeft g v0 (fun _ h =>
  K () h) E0 h))) E0 h)) ∧ (¬ x7 = 0 → (isO h v0 8 ∧ w_X8_readLent g v0 (fun _ h =>
  K () h) E0 h))) E0 h)) ∧ (¬ x5 = 0 → (isO h v0 8 ∧ w_X8_readUmbrella g v0 (fun _ h =>
  K () h) E0 h))) E0 h)) ∧ (¬ x3 = 0 → (isO h v0 8 ∧ w_X8_readPerson g v0 (fun _ h =>
  K () h) E0 h))) E0 h)) ∧ (¬ x1 = 0 → (isO h v0 8 ∧ w_X8_readCounty g v0 (fun _ h =>
  K () h) E0 h))) E0 h
def w_X8_eatsSemicolon_J13 (g : GT) (v0 : Option Nat) (s0 : Int32) (K : Int32 → AH → Prop) (E : Nat → AH → Prop) (h : AH) : Prop :=
  (s0 = 0 → (nz .boolean s0 (K s0 h))) ∧ (¬ s0 = 0 → (isO h v0 8 ∧ w_X8_goesOn g v0 (fun _ h =>
  nz .boolean s0 (K s0 h)) E0 h))
def w_X8_eatsSemicolon (g : GT) (v0 : Option Nat) (K : Int32 → AH → Prop) (E : Nat → AH → Prop) (h : AH) : Prop :=
  gI h v0 [8] 9 fun x1 =>
  (¬ x1 = 4 → (w_X8_eatsSemicolon_J13 g v0 0 K E h)) ∧ (x1 = 4 → (w_X8_eatsSemicolon_J13 g v0 1 K E h))
def w_X8_readAll_J51 (g : GT) (v0 : Option Nat) (K : Unit → AH → Prop) (E : Nat → AH → Prop) (h : AH) : Prop :=
  isO h v0 8 ∧ w_X8_flaw g v0 6 (fun _ h =>
  K () h) E0 h
def w_X8_readAll_J31 (g : GT) (v0 : Option Nat) (K : Unit → AH → Prop) (E : Nat → AH → Prop) (h : AH) : Prop :=
  gR h v0 [8] 4 fun x4 =>
  gI h x4 [26] 3 fun x5 =>
  (x5 = 0 → (w_X8_readAll_J51 g v0 K E h)) ∧ (¬ x5 = 0 → (gR h v0 [8] 4 fun x7 =>
  gI h x7 [26] 4 fun x8 =>
  (¬ x8 = 0 → (K () h)) ∧ (x8 = 0 → (w_X8_readAll_J51 g v0 K E h))))
def w_X8_readAll_L2 (g : GT) (v0 : Option Nat) (K : Unit → AH → Prop) (E : Nat → AH → Prop) (L2 : Int32 → AH → Prop) (v1 : Int32) (h : AH) : Prop :=
  (v1 = 0 → (gI h v0 [8] 9 fun x2 =>
  (x2 = 1 → (w_X8_readAll_J31 g v0 K E h)) ∧ (¬ x2 = 1 → (isO h v0 8 ∧ w_X8_flaw g v0 1 (fun _ h =>
  w_X8_readAll_J31 g v0 K E h) E0 h)))) ∧ (¬ v1 = 0 → (isO h v0 8 ∧ w_X8_readLine g v0 (fun _ h =>
  isO h v0 8 ∧ w_X8_eatsSemicolon g v0 (fun x10 h =>
  L2 x10 h) E0 h) E0 h))
def w_X8_readAll (g : GT) (v0 : Option Nat) (K : Unit → AH → Prop) (E : Nat → AH → Prop) (h : AH) : Prop :=
  Lp1 (w_X8_readAll_L2 g v0 K E) 1 h
def w_X8_isChild (g : GT) (v0 : Option Nat) (v1 : Int32) (K : Int32 → AH → Prop) (E : Nat → AH → Prop) (h : AH) : Prop :=
  gR h v0 [8] 3 fun x1 =>
  gR h x1 [26] 8 fun x2 =>
  aI h x2 0 v1 fun x3 =>
  (¬ x3 = 1 → (nz .boolean 0 (K 0 h))) ∧ (x3 = 1 → (nz .boolean 1 (K 1 h)))
def w_X8_starts_J81 (g : GT) (v0 : Option Nat) (v1 : Option Nat) (v2 : Int32) (s0 : Int32) (s1 : Int32) (s2 : Option Nat) (K : Unit → AH → Prop) (E : Nat → AH → Prop) (L7 : Int32 → AH → Prop) (h : AH) : Prop :=
  sI g h s2 0 s1 s0 fun h =>
  nmI (v2 + 1) fun x6 =>
  L7 x6 h
def w_X8_starts_J75 (g : GT) (v0 : Option Nat) (v1 : Option Nat) (v2 : Int32) (s0 : Int32) (s1 : Option Nat) (K : Unit → AH → Prop) (E : Nat → AH → Prop) (L7 : Int32 → AH → Prop) (h : AH) : Prop :=
  w_X8_starts_J81 g v0 v1 v2 (-2) s0 s1 K E L7 h
def w_X8_starts_J37 (g : GT) (v0 : Option Nat) (v1 : Option Nat) (v2 : Int32) (s0 : Int32) (K : Unit → AH → Prop) (E : Nat → AH → Prop) (L7 : Int32 → AH → Prop) (h : AH) : Prop :=
  sI g h v1 0 (0 + v2) s0 fun h =>
  (s0 = (-2) → (w_X8_starts_J75 g v0 v1 v2 (5 + v2) v1 K E L7 h)) ∧ (¬ s0 = (-2) → (gR h v0 [8] 3 fun x7 =>
  gR h x7 [26] 9 fun x8 =>
  aI h x8 0 v2 fun x9 =>
  (x9 = 2 → (w_X8_starts_J75 g v0 v1 v2 (5 + v2) v1 K E L7 h)) ∧ (¬ x9 = 2 → (isO h v0 8 ∧ w_X8_isChild g v0 s0 (fun x11 h =>
  (x11 = 0 → (w_X8_starts_J81 g v0 v1 v2 s0 (5 + v2) v1 K E L7 h)) ∧ (¬ x11 = 0 → (w_X8_starts_J75 g v0 v1 v2 (5 + v2) v1 K E L7 h))) E0 h))))
def w_X8_starts_L7 (g : GT) (v0 : Option Nat) (v1 : Option Nat) (K : Unit → AH → Prop) (E : Nat → AH → Prop) (L7 : Int32 → AH → Prop) (v2 : Int32) (h : AH) : Prop :=
  (5 ≤ v2 → (K () h)) ∧ (¬ 5 ≤ v2 → (gR h v0 [8] 3 fun x2 =>
  gI h x2 [26] 4 fun x3 =>
  (x3 ≤ v2 → (w_X8_starts_J37 g v0 v1 v2 (-2) K E L7 h)) ∧ (¬ x3 ≤ v2 → (gR h v0 [8] 3 fun x13 =>
  gR h x13 [26] 12 fun x14 =>
  aI h x14 0 v2 fun x15 =>
  w_X8_starts_J37 g v0 v1 v2 x15 K E L7 h))))
def w_X8_starts (g : GT) (v0 : Option Nat) (v1 : Option Nat) (K : Unit → AH → Prop) (E : Nat → AH → Prop) (h : AH) : Prop :=
  sI g h v1 0 10 0 fun h =>
  Lp1 (w_X8_starts_L7 g v0 v1 K E) 0 h
def w_X8_good (g : GT) (v0 : Option Nat) (v1 : Int32) (K : Int32 → AH → Prop) (E : Nat → AH → Prop) (h : AH) : Prop :=
  pV g h v0 [8] 1 (.int 0) fun h =>
  pV g h v0 [8] 2 (.int (-1)) fun h =>
  K v1 h
def w_X8_county_J17 (g : GT) (v0 : Option Nat) (K : Int32 → AH → Prop) (E : Nat → AH → Prop) (h : AH) : Prop :=
  isO h v0 8 ∧ w_X8_refused g v0 2 (fun x2 h =>
  K x2 h) E0 h
def w_X8_county (g : GT) (v0 : Option Nat) (v1 : Int32) (K : Int32 → AH → Prop) (E : Nat → AH → Prop) (h : AH) : Prop :=
  pV g h v0 [8] 0 (.int 0) fun h =>
  (v1 < 0 → (w_X8_county_J17 g v0 K E h)) ∧ (¬ v1 < 0 → (gI h v0 [8] 6 fun x3 =>
  (v1 ≤ x3 → (pV g h v0 [8] 7 (.int v1) fun h =>
  pV g h v0 [8] 6 (.int 0) fun h =>
  pV g h v0 [8] 8 (.int 0) fun h =>
  pV g h v0 [8] 12 (.int 0) fun h =>
  nO g h 26 23 [.int 0, .int 0, .int 0, .int 0, .int 0, .int 0, .int 0, .int 0, va_rf none, va_rf none, va_rf none, va_rf none, va_rf none, va_rf none, va_rf none, va_rf none, va_rf none, va_rf none, va_rf none, va_rf none, va_rf none, va_rf none, va_rf none] fun x5 h =>
  ¬ x5 = none ∧ w_X26_init g x5 (fun _ h =>
  pV g h v0 [8] 4 (va_rf x5) fun h =>
  pV g h v0 [8] 9 (.int 0) fun h =>
  isO h v0 8 ∧ w_X8_goesOn g v0 (fun _ h =>
  isO h v0 8 ∧ w_X8_readAll g v0 (fun _ h =>
  gI h v0 [8] 12 fun x6 =>
  (x6 ≤ 0 → (gR h v0 [8] 4 fun x8 =>
  pV g h v0 [8] 3 (va_rf x8) fun h =>
  gR h v0 [8] 15 fun x9 =>
  isO h v0 8 ∧ w_X8_starts g v0 x9 (fun _ h =>
  pV g h v0 [8] 19 (.int 0) fun h =>
  pV g h v0 [8] 20 (.int 0) fun h =>
  gR h v0 [8] 3 fun x10 =>
  gI h x10 [26] 4 fun x11 =>
  isO h v0 8 ∧ w_X8_good g v0 x11 (fun x12 h =>
  K x12 h) E0 h) E0 h)) ∧ (¬ x6 ≤ 0 → (pV g h v0 [8] 1 (.int 4) fun h =>
  gI h v0 [8] 13 fun x13 =>
  pV g h v0 [8] 2 (.int x13) fun h =>
  K (-1) h))) E0 h) E0 h) E0 h)) ∧ (¬ v1 ≤ x3 → (w_X8_county_J17 g v0 K E h))))
def w_X8_fault (g : GT) (v0 : Option Nat) (K : Int32 → AH → Prop) (E : Nat → AH → Prop) (h : AH) : Prop :=
  pV g h v0 [8] 0 (.int 0) fun h =>
  gI h v0 [8] 12 fun x1 =>
  K x1 h
def w_X8_where (g : GT) (v0 : Option Nat) (K : Int32 → AH → Prop) (E : Nat → AH → Prop) (h : AH) : Prop :=
  pV g h v0 [8] 0 (.int 0) fun h =>
  gI h v0 [8] 2 fun x1 =>
  K x1 h
def w_X8_isUmbrella (g : GT) (v0 : Option Nat) (v1 : Int32) (K : Int32 → AH → Prop) (E : Nat → AH → Prop) (h : AH) : Prop :=
  gR h v0 [8] 3 fun x1 =>
  (x1 = none → (nz .boolean 0 (K 0 h))) ∧ (¬ x1 = none → ((v1 < 0 → (nz .boolean 0 (K 0 h))) ∧ (¬ v1 < 0 → (gR h v0 [8] 3 fun x4 =>
  gI h x4 [26] 4 fun x5 =>
  (x5 ≤ v1 → (nz .boolean 0 (K 0 h))) ∧ (¬ x5 ≤ v1 → (nz .boolean 1 (K 1 h)))))))
def w_X8_umbrella_J22 (g : GT) (v0 : Option Nat) (K : Int32 → AH → Prop) (E : Nat → AH → Prop) (h : AH) : Prop :=
  isO h v0 8 ∧ w_X8_refused g v0 1 (fun x3 h =>
  K x3 h) E0 h
def w_X8_umbrella (g : GT) (v0 : Option Nat) (v1 : Int32) (v2 : Int32) (K : Int32 → AH → Prop) (E : Nat → AH → Prop) (h : AH) : Prop :=
  pV g h v0 [8] 0 (.int 0) fun h =>
  isO h v0 8 ∧ w_X8_isUmbrella g v0 v1 (fun x1 h =>
  (x1 = 0 → (w_X8_umbrella_J22 g v0 K E h)) ∧ (¬ x1 = 0 → (w_X8_in g v2 0 4 (fun x4 h =>
  (¬ x4 = 0 → (swT v2 [(0, gR h v0 [8] 3 fun x7 =>
  gR h x7 [26] 9 fun x8 =>
  aI h x8 0 v1 fun x9 =>
  isO h v0 8 ∧ w_X8_good g v0 x9 (fun x10 h =>
  K x10 h) E0 h),
  (1, gR h v0 [8] 3 fun x11 =>
  gR h x11 [26] 10 fun x12 =>
  aI h x12 0 v1 fun x13 =>
  isO h v0 8 ∧ w_X8_good g v0 x13 (fun x14 h =>
  K x14 h) E0 h),
  (2, gR h v0 [8] 3 fun x15 =>
  gR h x15 [26] 11 fun x16 =>
  aI h x16 0 v1 fun x17 =>
  isO h v0 8 ∧ w_X8_good g v0 x17 (fun x18 h =>
  K x18 h) E0 h),
  (3, gR h v0 [8] 15 fun x19 =>
  aI h x19 0 (0 + v1) fun x20 =>
  isO h v0 8 ∧ w_X8_good g v0 x20 (fun x21 h =>
  K x21 h) E0 h)] (gR h v0 [8] 15 fun x22 =>
  aI h x22 0 (5 + v1) fun x23 =>
  isO h v0 8 ∧ w_X8_good g v0 x23 (fun x24 h =>
  K x24 h) E0 h))) ∧ (x4 = 0 → (w_X8_umbrella_J22 g v0 K E h))) E0 h))) E0 h
def w_X8_isPerson (g : GT) (v0 : Option Nat) (v1 : Int32) (K : Int32 → AH → Prop) (E : Nat → AH → Prop) (h : AH) : Prop :=
  gR h v0 [8] 3 fun x1 =>
  (x1 = none → (nz .boolean 0 (K 0 h))) ∧ (¬ x1 = none → ((v1 < 0 → (nz .boolean 0 (K 0 h))) ∧ (¬ v1 < 0 → (gR h v0 [8] 3 fun x4 =>
  gI h x4 [26] 3 fun x5 =>
  (x5 ≤ v1 → (nz .boolean 0 (K 0 h))) ∧ (¬ x5 ≤ v1 → (nz .boolean 1 (K 1 h)))))))
def w_X8_hadBy_J36 (g : GT) (v0 : Option Nat) (v1 : Option Nat) (v2 : Int32) (v4 : Int32) (s0 : Int32) (s1 : Int32) (K : Int32 → AH → Prop) (E : Nat → AH → Prop) (L5 : Int32 → Int32 → AH → Prop) (h : AH) : Prop :=
  nmI (s1 ||| s0) fun x6 =>
  nmI (v4 + 1) fun x7 =>
  L5 x6 x7 h
def w_X8_hadBy_L5 (g : GT) (v0 : Option Nat) (v1 : Option Nat) (v2 : Int32) (K : Int32 → AH → Prop) (E : Nat → AH → Prop) (L5 : Int32 → Int32 → AH → Prop) (v3 : Int32) (v4 : Int32) (h : AH) : Prop :=
  gR h v0 [8] 3 fun x1 =>
  gI h x1 [26] 4 fun x2 =>
  (x2 ≤ v4 → (K v3 h)) ∧ (¬ x2 ≤ v4 → (aI h v1 0 (0 + v4) fun x4 =>
  (¬ x4 = v2 → (w_X8_hadBy_J36 g v0 v1 v2 v4 0 v3 K E L5 h)) ∧ (x4 = v2 → (w_X8_hadBy_J36 g v0 v1 v2 v4 (1 <<< (v4 &&& 31)) v3 K E L5 h))))
def w_X8_hadBy (g : GT) (v0 : Option Nat) (v1 : Option Nat) (v2 : Int32) (K : Int32 → AH → Prop) (E : Nat → AH → Prop) (h : AH) : Prop :=
  Lp2 (w_X8_hadBy_L5 g v0 v1 v2 K E) 0 0 h
def w_X8_landsIn_J42 (g : GT) (v0 : Option Nat) (v1 : Option Nat) (v2 : Int32) (v4 : Int32) (s0 : Int32) (s1 : Int32) (K : Int32 → AH → Prop) (E : Nat → AH → Prop) (L5 : Int32 → Int32 → AH → Prop) (h : AH) : Prop :=
  nmI (s1 + s0) fun x6 =>
  nmI (v4 + 1) fun x7 =>
  L5 x6 x7 h
def w_X8_landsIn_L5 (g : GT) (v0 : Option Nat) (v1 : Option Nat) (v2 : Int32) (K : Int32 → AH → Prop) (E : Nat → AH → Prop) (L5 : Int32 → Int32 → AH → Prop) (v3 : Int32) (v4 : Int32) (h : AH) : Prop :=
  gR h v0 [8] 3 fun x1 =>
  gI h x1 [26] 4 fun x2 =>
  (x2 ≤ v4 → (K v3 h)) ∧ (¬ x2 ≤ v4 → (aI h v1 0 (5 + v4) fun x4 =>
  (¬ x4 = v2 → (w_X8_landsIn_J42 g v0 v1 v2 v4 0 v3 K E L5 h)) ∧ (x4 = v2 → (gR h v0 [8] 3 fun x8 =>
  gR h x8 [26] 10 fun x9 =>
  aI h x9 0 v4 fun x10 =>
  w_X8_landsIn_J42 g v0 v1 v2 v4 x10 v3 K E L5 h))))
def w_X8_landsIn (g : GT) (v0 : Option Nat) (v1 : Option Nat) (v2 : Int32) (K : Int32 → AH → Prop) (E : Nat → AH → Prop) (h : AH) : Prop :=
  Lp2 (w_X8_landsIn_L5 g v0 v1 v2 K E) 0 0 h
def w_X8_person_J22 (g : GT) (v0 : Option Nat) (K : Int32 → AH → Prop) (E : Nat → AH → Prop) (h : AH) : Prop :=
  isO h v0 8 ∧ w_X8_refused g v0 1 (fun x3 h =>
  K x3 h) E0 h
def w_X8_person_J71 (g : GT)  (s0 : Int32) (s1 : Option Nat) (K : Int32 → AH → Prop) (E : Nat → AH → Prop) (h : AH) : Prop :=
  isO h s1 8 ∧ w_X8_good g s1 s0 (fun x10 h =>
  K x10 h) E0 h
def w_X8_person (g : GT) (v0 : Option Nat) (v1 : Int32) (v2 : Int32) (K : Int32 → AH → Prop) (E : Nat → AH → Prop) (h : AH) : Prop :=
  pV g h v0 [8] 0 (.int 0) fun h =>
  isO h v0 8 ∧ w_X8_isPerson g v0 v1 (fun x1 h =>
  (x1 = 0 → (w_X8_person_J22 g v0 K E h)) ∧ (¬ x1 = 0 → (w_X8_in g v2 0 2 (fun x4 h =>
  (¬ x4 = 0 → ((¬ v2 = 0 → ((¬ v2 = 1 → (gR h v0 [8] 15 fun x8 =>
  isO h v0 8 ∧ w_X8_landsIn g v0 x8 v1 (fun x9 h =>
  w_X8_person_J71 g  x9 v0 K E h) E0 h)) ∧ (v2 = 1 → (gR h v0 [8] 15 fun x11 =>
  isO h v0 8 ∧ w_X8_hadBy g v0 x11 v1 (fun x12 h =>
  w_X8_person_J71 g  x12 v0 K E h) E0 h)))) ∧ (v2 = 0 → (gR h v0 [8] 3 fun x13 =>
  gR h x13 [26] 8 fun x14 =>
  aI h x14 0 v1 fun x15 =>
  w_X8_person_J71 g  x15 v0 K E h)))) ∧ (x4 = 0 → (w_X8_person_J22 g v0 K E h))) E0 h))) E0 h
def w_X8_alike_J54 (g : GT) (v0 : Option Nat) (v1 : Int32) (v3 : Int32) (s0 : Int32) (s1 : Int32) (K : Int32 → AH → Prop) (E : Nat → AH → Prop) (L23 : Int32 → Int32 → AH → Prop) (h : AH) : Prop :=
  nmI (s1 ||| s0) fun x10 =>
  nmI (v3 + 1) fun x11 =>
  L23 x10 x11 h
def w_X8_alike_L23 (g : GT) (v0 : Option Nat) (v1 : Int32) (K : Int32 → AH → Prop) (E : Nat → AH → Prop) (L23 : Int32 → Int32 → AH → Prop) (v2 : Int32) (v3 : Int32) (h : AH) : Prop :=
  gR h v0 [8] 3 fun x3 =>
  gI h x3 [26] 4 fun x4 =>
  (x4 ≤ v3 → (isO h v0 8 ∧ w_X8_good g v0 v2 (fun x6 h =>
  K x6 h) E0 h)) ∧ (¬ x4 ≤ v3 → (gR h v0 [8] 3 fun x7 =>
  isO h x7 26 ∧ w_X26_areAlike g x7 v1 v3 (fun x8 h =>
  (x8 = 0 → (w_X8_alike_J54 g v0 v1 v3 0 v2 K E L23 h)) ∧ (¬ x8 = 0 → (w_X8_alike_J54 g v0 v1 v3 (1 <<< (v3 &&& 31)) v2 K E L23 h))) E0 h))
def w_X8_alike (g : GT) (v0 : Option Nat) (v1 : Int32) (K : Int32 → AH → Prop) (E : Nat → AH → Prop) (h : AH) : Prop :=
  pV g h v0 [8] 0 (.int 0) fun h =>
  isO h v0 8 ∧ w_X8_isUmbrella g v0 v1 (fun x1 h =>
  (¬ x1 = 0 → (Lp2 (w_X8_alike_L23 g v0 v1 K E) 0 0 h)) ∧ (x1 = 0 → (isO h v0 8 ∧ w_X8_refused g v0 1 (fun x12 h =>
  K x12 h) E0 h))) E0 h
def w_X8_rightIn_J46 (g : GT) (v0 : Option Nat) (v1 : Option Nat) (v3 : Int32) (s0 : Int32) (s1 : Int32) (K : Int32 → AH → Prop) (E : Nat → AH → Prop) (L4 : Int32 → Int32 → AH → Prop) (h : AH) : Prop :=
  nmI (s1 ||| s0) fun x6 =>
  nmI (v3 + 1) fun x7 =>
  L4 x6 x7 h
def w_X8_rightIn_J45 (g : GT) (v0 : Option Nat) (v1 : Option Nat) (v3 : Int32) (s0 : Int32) (K : Int32 → AH → Prop) (E : Nat → AH → Prop) (L4 : Int32 → Int32 → AH → Prop) (h : AH) : Prop :=
  w_X8_rightIn_J46 g v0 v1 v3 0 s0 K E L4 h
def w_X8_rightIn_L4 (g : GT) (v0 : Option Nat) (v1 : Option Nat) (K : Int32 → AH → Prop) (E : Nat → AH → Prop) (L4 : Int32 → Int32 → AH → Prop) (v2 : Int32) (v3 : Int32) (h : AH) : Prop :=
  gR h v0 [8] 3 fun x1 =>
  gI h x1 [26] 4 fun x2 =>
  (x2 ≤ v3 → (K v2 h)) ∧ (¬ x2 ≤ v3 → (aI h v1 0 (5 + v3) fun x4 =>
  (x4 = (-2) → (w_X8_rightIn_J45 g v0 v1 v3 v2 K E L4 h)) ∧ (¬ x4 = (-2) → (aI h v1 0 (5 + v3) fun x8 =>
  aI h v1 0 (0 + v3) fun x9 =>
  (¬ x8 = x9 → (w_X8_rightIn_J45 g v0 v1 v3 v2 K E L4 h)) ∧ (x8 = x9 → (w_X8_rightIn_J46 g v0 v1 v3 (1 <<< (v3 &&& 31)) v2 K E L4 h))))))
def w_X8_rightIn (g : GT) (v0 : Option Nat) (v1 : Option Nat) (K : Int32 → AH → Prop) (E : Nat → AH → Prop) (h : AH) : Prop :=
  Lp2 (w_X8_rightIn_L4 g v0 v1 K E) 0 0 h
def w_X8_right (g : GT) (v0 : Option Nat) (K : Int32 → AH → Prop) (E : Nat → AH → Prop) (h : AH) : Prop :=
  pV g h v0 [8] 0 (.int 0) fun h =>
  gR h v0 [8] 3 fun x1 =>
  (¬ x1 = none → (gR h v0 [8] 15 fun x3 =>
  isO h v0 8 ∧ w_X8_rightIn g v0 x3 (fun x4 h =>
  isO h v0 8 ∧ w_X8_good g v0 x4 (fun x5 h =>
  K x5 h) E0 h) E0 h)) ∧ (x1 = none → (isO h v0 8 ∧ w_X8_refused g v0 1 (fun x6 h =>
  K x6 h) E0 h))
def w_X8_richest_J64 (g : GT) (v0 : Option Nat) (v1 : Int32) (v2 : Int32) (v3 : Int32) (K : Int32 → AH → Prop) (E : Nat → AH → Prop) (L25 : Int32 → Int32 → Int32 → AH → Prop) (h : AH) : Prop :=
  nmI (v3 + 1) fun x12 =>
  L25 v1 v2 x12 h
def w_X8_richest_L25 (g : GT) (v0 : Option Nat) (K : Int32 → AH → Prop) (E : Nat → AH → Prop) (L25 : Int32 → Int32 → Int32 → AH → Prop) (v1 : Int32) (v2 : Int32) (v3 : Int32) (h : AH) : Prop :=
  gR h v0 [8] 3 fun x3 =>
  gI h x3 [26] 3 fun x4 =>
  (x4 ≤ v3 → (isO h v0 8 ∧ w_X8_good g v0 v1 (fun x6 h =>
  K x6 h) E0 h)) ∧ (¬ x4 ≤ v3 → (gR h v0 [8] 15 fun x7 =>
  isO h v0 8 ∧ w_X8_landsIn g v0 x7 v3 (fun x8 h =>
  (v2 < x8 → (gR h v0 [8] 15 fun x10 =>
  isO h v0 8 ∧ w_X8_landsIn g v0 x10 v3 (fun x11 h =>
  w_X8_richest_J64 g v0 v3 x11 v3 K E L25 h) E0 h)) ∧ (¬ v2 < x8 → (w_X8_richest_J64 g v0 v1 v2 v3 K E L25 h))) E0 h))
def w_X8_richest (g : GT) (v0 : Option Nat) (K : Int32 → AH → Prop) (E : Nat → AH → Prop) (h : AH) : Prop :=
  pV g h v0 [8] 0 (.int 0) fun h =>
  gR h v0 [8] 3 fun x1 =>
  (¬ x1 = none → (Lp3 (w_X8_richest_L25 g v0 K E) (-2) 0 0 h)) ∧ (x1 = none → (isO h v0 8 ∧ w_X8_refused g v0 1 (fun x13 h =>
  K x13 h) E0 h))
def w_X8_changes (g : GT) (v0 : Option Nat) (v1 : Int32) (v2 : Int32) (K : Unit → AH → Prop) (E : Nat → AH → Prop) (h : AH) : Prop :=
  aI h v0 0 (0 + v1) fun x1 =>
  aI h v0 0 (0 + v2) fun x2 =>
  sI g h v0 0 (0 + v1) x2 fun h =>
  sI g h v0 0 (0 + v2) x1 fun h =>
  K () h
def w_X8_happens_J134 (g : GT) (v0 : Option Nat) (v1 : Int32) (v2 : Int32) (v3 : Int32) (K : Int32 → AH → Prop) (E : Nat → AH → Prop) (L4 : Int32 → Int32 → AH → Prop) (h : AH) : Prop :=
  nmI (v3 + 1) fun x19 =>
  L4 v2 x19 h
def w_X8_happens_L4 (g : GT) (v0 : Option Nat) (v1 : Int32) (K : Int32 → AH → Prop) (E : Nat → AH → Prop) (L4 : Int32 → Int32 → AH → Prop) (v2 : Int32) (v3 : Int32) (h : AH) : Prop :=
  gR h v0 [8] 3 fun x1 =>
  gI h x1 [26] 5 fun x2 =>
  (x2 ≤ v3 → (nz .boolean v2 (K v2 h))) ∧ (¬ x2 ≤ v3 → (gR h v0 [8] 3 fun x4 =>
  gR h x4 [26] 16 fun x5 =>
  aI h x5 0 v3 fun x6 =>
  (x6 = v1 → (gR h v0 [8] 3 fun x8 =>
  gR h x8 [26] 14 fun x9 =>
  aI h x9 0 v3 fun x10 =>
  gR h v0 [8] 3 fun x11 =>
  gR h x11 [26] 13 fun x12 =>
  aI h x12 0 v3 fun x13 =>
  swT x13 [(0, gR h v0 [8] 16 fun x15 =>
  gR h v0 [8] 3 fun x16 =>
  gR h x16 [26] 15 fun x17 =>
  aI h x17 0 v3 fun x18 =>
  sI g h x15 0 (0 + x10) x18 fun h =>
  w_X8_happens_J134 g v0 v1 v2 v3 K E L4 h),
  (1, gR h v0 [8] 16 fun x20 =>
  sI g h x20 0 (0 + x10) (-2) fun h =>
  w_X8_happens_J134 g v0 v1 v2 v3 K E L4 h),
  (2, gR h v0 [8] 16 fun x21 =>
  gR h v0 [8] 3 fun x22 =>
  gR h x22 [26] 15 fun x23 =>
  aI h x23 0 v3 fun x24 =>
  w_X8_changes g x21 x10 x24 (fun _ h =>
  w_X8_happens_J134 g v0 v1 v2 v3 K E L4 h) E0 h)] (w_X8_happens_J134 g v0 v1 1 v3 K E L4 h))) ∧ (¬ x6 = v1 → (w_X8_happens_J134 g v0 v1 v2 v3 K E L4 h))))
def w_X8_happens (g : GT) (v0 : Option Nat) (v1 : Int32) (K : Int32 → AH → Prop) (E : Nat → AH → Prop) (h : AH) : Prop :=
  Lp2 (w_X8_happens_L4 g v0 v1 K E) 0 0 h
def w_X8_lapses_J32 (g : GT) (v0 : Option Nat) (v1 : Option Nat) (v2 : Int32) (K : Unit → AH → Prop) (E : Nat → AH → Prop) (L2 : Int32 → AH → Prop) (h : AH) : Prop :=
  nmI (v2 + 1) fun x8 =>
  L2 x8 h
def w_X8_lapses_L2 (g : GT) (v0 : Option Nat) (v1 : Option Nat) (K : Unit → AH → Prop) (E : Nat → AH → Prop) (L2 : Int32 → AH → Prop) (v2 : Int32) (h : AH) : Prop :=
  gR h v0 [8] 3 fun x1 =>
  gI h x1 [26] 4 fun x2 =>
  (x2 ≤ v2 → (K () h)) ∧ (¬ x2 ≤ v2 → (gR h v0 [8] 3 fun x4 =>
  gR h x4 [26] 9 fun x5 =>
  aI h x5 0 v2 fun x6 =>
  (x6 = 0 → (w_X8_lapses_J32 g v0 v1 v2 K E L2 h)) ∧ (¬ x6 = 0 → (sI g h v1 0 (5 + v2) (-2) fun h =>
  w_X8_lapses_J32 g v0 v1 v2 K E L2 h))))
def w_X8_lapses (g : GT) (v0 : Option Nat) (v1 : Option Nat) (K : Unit → AH → Prop) (E : Nat → AH → Prop) (h : AH) : Prop :=
  Lp1 (w_X8_lapses_L2 g v0 v1 K E) 0 h
def w_X8_bits_L4 (g : GT)  (K : Int32 → AH → Prop) (E : Nat → AH → Prop) (L4 : Int32 → Int32 → AH → Prop) (v1 : Int32) (v2 : Int32) (h : AH) : Prop :=
  (v2 = 0 → (K v1 h)) ∧ (¬ v2 = 0 → (nmI (v1 + 1) fun x2 =>
  nmI (v2 &&& (v2 - 1)) fun x3 =>
  L4 x2 x3 h))
def w_X8_bits (g : GT) (v0 : Int32) (K : Int32 → AH → Prop) (E : Nat → AH → Prop) (h : AH) : Prop :=
  Lp2 (w_X8_bits_L4 g  K E) 0 v0 h
def w_X8_forgets_J74 (g : GT) (v0 : Option Nat) (v1 : Option Nat) (v2 : Int32) (v3 : Int32) (v4 : Int32) (K : Unit → AH → Prop) (E : Nat → AH → Prop) (L19 : Int32 → Int32 → AH → Prop) (h : AH) : Prop :=
  nmI (v4 + 1) fun x10 =>
  L19 v3 x10 h
def w_X8_forgets_J71 (g : GT) (v0 : Option Nat) (v1 : Option Nat) (v2 : Int32) (v4 : Int32) (K : Unit → AH → Prop) (E : Nat → AH → Prop) (L19 : Int32 → Int32 → AH → Prop) (h : AH) : Prop :=
  w_X8_forgets_J74 g v0 v1 v2 v4 v4 K E L19 h
def w_X8_forgets_L19 (g : GT) (v0 : Option Nat) (v1 : Option Nat) (v2 : Int32) (K : Unit → AH → Prop) (E : Nat → AH → Prop) (L19 : Int32 → Int32 → AH → Prop) (v3 : Int32) (v4 : Int32) (h : AH) : Prop :=
  gR h v0 [8] 3 fun x4 =>
  gI h x4 [26] 4 fun x5 =>
  (x5 ≤ v4 → (sI g h v1 0 (0 + v3) (-2) fun h =>
  K () h)) ∧ (¬ x5 ≤ v4 → (aI h v1 0 (0 + v4) fun x7 =>
  (x7 = v2 → ((v3 = (-1) → (w_X8_forgets_J71 g v0 v1 v2 v4 K E L19 h)) ∧ (¬ v3 = (-1) → (gR h v0 [8] 3 fun x11 =>
  gR h x11 [26] 10 fun x12 =>
  aI h x12 0 v4 fun x13 =>
  gR h v0 [8] 3 fun x14 =>
  gR h x14 [26] 10 fun x15 =>
  aI h x15 0 v3 fun x16 =>
  (x16 ≤ x13 → (w_X8_forgets_J74 g v0 v1 v2 v3 v4 K E L19 h)) ∧ (¬ x16 ≤ x13 → (w_X8_forgets_J71 g v0 v1 v2 v4 K E L19 h)))))) ∧ (¬ x7 = v2 → (w_X8_forgets_J74 g v0 v1 v2 v3 v4 K E L19 h))))
def w_X8_forgets (g : GT) (v0 : Option Nat) (v1 : Option Nat) (v2 : Int32) (K : Unit → AH → Prop) (E : Nat → AH → Prop) (h : AH) : Prop :=
  isO h v0 8 ∧ w_X8_hadBy g v0 v1 v2 (fun x1 h =>
  w_X8_bits g x1 (fun x2 h =>
  (2 ≤ x2 → (Lp2 (w_X8_forgets_L19 g v0 v1 v2 K E) (-1) 0 h)) ∧ (¬ 2 ≤ x2 → (K () h))) E0 h) E0 h
def w_X8_ends_J183 (g : GT) (v0 : Option Nat) (v1 : Option Nat) (v3 : Int32) (K : Unit → AH → Prop) (E : Nat → AH → Prop) (L153 : Int32 → AH → Prop) (h : AH) : Prop :=
  nmI (v3 + 1) fun x18 =>
  L153 x18 h
def w_X8_ends_L153 (g : GT) (v0 : Option Nat) (v1 : Option Nat) (K : Unit → AH → Prop) (E : Nat → AH → Prop) (L153 : Int32 → AH → Prop) (v3 : Int32) (h : AH) : Prop :=
  gR h v0 [8] 3 fun x11 =>
  gI h x11 [26] 3 fun x12 =>
  (x12 ≤ v3 → (K () h)) ∧ (¬ x12 ≤ v3 → (gR h v0 [8] 3 fun x14 =>
  gR h x14 [26] 8 fun x15 =>
  aI h x15 0 v3 fun x16 =>
  (¬ x16 = 2 → (w_X8_ends_J183 g v0 v1 v3 K E L153 h)) ∧ (x16 = 2 → (isO h v0 8 ∧ w_X8_forgets g v0 v1 v3 (fun _ h =>
  w_X8_ends_J183 g v0 v1 v3 K E L153 h) E0 h))))
def w_X8_ends_J151 (g : GT) (v0 : Option Nat) (v1 : Option Nat) (K : Unit → AH → Prop) (E : Nat → AH → Prop) (h : AH) : Prop :=
  Lp1 (w_X8_ends_L153 g v0 v1 K E) 0 h
def w_X8_ends_J132 (g : GT) (v0 : Option Nat) (v1 : Option Nat) (K : Unit → AH → Prop) (E : Nat → AH → Prop) (h : AH) : Prop :=
  aI h v1 0 10 fun x7 =>
  gR h v0 [8] 3 fun x8 =>
  gI h x8 [26] 0 fun x9 =>
  (x7 < x9 → (w_X8_ends_J151 g v0 v1 K E h)) ∧ (¬ x7 < x9 → (isO h v0 8 ∧ w_X8_lapses g v0 v1 (fun _ h =>
  w_X8_ends_J151 g v0 v1 K E h) E0 h))
def w_X8_ends_J97 (g : GT) (v0 : Option Nat) (v1 : Option Nat) (v2 : Int32) (v3 : Int32) (K : Unit → AH → Prop) (E : Nat → AH → Prop) (L2 : Int32 → AH → Prop) (h : AH) : Prop :=
  nmI (v3 + 1) fun x27 =>
  L2 x27 h
def w_X8_ends_J67 (g : GT) (v0 : Option Nat) (v1 : Option Nat) (v2 : Int32) (v3 : Int32) (v4 : Int32) (s0 : Int32) (K : Unit → AH → Prop) (E : Nat → AH → Prop) (L2 : Int32 → AH → Prop) (h : AH) : Prop :=
  (s0 = 0 → (w_X8_ends_J97 g v0 v1 v2 v3 K E L2 h)) ∧ (¬ s0 = 0 → ((v4 = (-2) → (w_X8_ends_J97 g v0 v1 v2 v3 K E L2 h)) ∧ (¬ v4 = (-2) → (isO h v0 8 ∧ w_X8_isChild g v0 v4 (fun x29 h =>
  (¬ x29 = 0 → (w_X8_ends_J97 g v0 v1 v2 v3 K E L2 h)) ∧ (x29 = 0 → (sI g h v1 0 (5 + v3) v4 fun h =>
  w_X8_ends_J97 g v0 v1 v2 v3 K E L2 h))) E0 h))))
def w_X8_ends_J66 (g : GT) (v0 : Option Nat) (v1 : Option Nat) (v2 : Int32) (v3 : Int32) (v4 : Int32) (K : Unit → AH → Prop) (E : Nat → AH → Prop) (L2 : Int32 → AH → Prop) (h : AH) : Prop :=
  w_X8_ends_J67 g v0 v1 v2 v3 v4 0 K E L2 h
def w_X8_ends_L2 (g : GT) (v0 : Option Nat) (v1 : Option Nat) (v2 : Int32) (K : Unit → AH → Prop) (E : Nat → AH → Prop) (L2 : Int32 → AH → Prop) (v3 : Int32) (h : AH) : Prop :=
  gR h v0 [8] 3 fun x1 =>
  gI h x1 [26] 4 fun x2 =>
  (x2 ≤ v3 → ((v2 = 0 → (aI h v1 0 10 fun x5 =>
  (30 ≤ x5 → (w_X8_ends_J132 g v0 v1 K E h)) ∧ (¬ 30 ≤ x5 → (aI h v1 0 10 fun x19 =>
  sI g h v1 0 10 (x19 + 1) fun h =>
  w_X8_ends_J132 g v0 v1 K E h)))) ∧ (¬ v2 = 0 → (sI g h v1 0 10 0 fun h =>
  w_X8_ends_J132 g v0 v1 K E h)))) ∧ (¬ x2 ≤ v3 → (aI h v1 0 (0 + v3) fun x20 =>
  gR h v0 [8] 3 fun x21 =>
  gR h x21 [26] 9 fun x22 =>
  aI h x22 0 v3 fun x23 =>
  (¬ x23 = 3 → ((v2 = 0 → (w_X8_ends_J66 g v0 v1 v2 v3 x20 K E L2 h)) ∧ (¬ v2 = 0 → (gR h v0 [8] 3 fun x31 =>
  gR h x31 [26] 9 fun x32 =>
  aI h x32 0 v3 fun x33 =>
  (x33 = 2 → (w_X8_ends_J66 g v0 v1 v2 v3 x20 K E L2 h)) ∧ (¬ x33 = 2 → (w_X8_ends_J67 g v0 v1 v2 v3 x20 1 K E L2 h)))))) ∧ (x23 = 3 → ((¬ v2 = 0 → (w_X8_ends_J67 g v0 v1 v2 v3 x20 0 K E L2 h)) ∧ (v2 = 0 → (w_X8_ends_J67 g v0 v1 v2 v3 x20 1 K E L2 h))))))
def w_X8_ends (g : GT) (v0 : Option Nat) (v1 : Option Nat) (v2 : Int32) (K : Unit → AH → Prop) (E : Nat → AH → Prop) (h : AH) : Prop :=
  Lp1 (w_X8_ends_L2 g v0 v1 v2 K E) 0 h
def w_X8_goesBy (g : GT) (v0 : Option Nat) (v1 : Int32) (K : Unit → AH → Prop) (E : Nat → AH → Prop) (h : AH) : Prop :=
  gR h v0 [8] 16 fun x1 =>
  isO h v0 8 ∧ w_X8_happens g v0 v1 (fun x2 h =>
  isO h v0 8 ∧ w_X8_ends g v0 x1 x2 (fun _ h =>
  K () h) E0 h) E0 h
def w_X8_behind_L10 (g : GT) (v0 : Option Nat) (v1 : Int32) (K : Unit → AH → Prop) (E : Nat → AH → Prop) (L10 : Int32 → AH → Prop) (v2 : Int32) (h : AH) : Prop :=
  (v1 < v2 → (K () h)) ∧ (¬ v1 < v2 → (isO h v0 8 ∧ w_X8_goesBy g v0 v2 (fun _ h =>
  nmI (v2 + 1) fun x3 =>
  L10 x3 h) E0 h))
def w_X8_behind (g : GT) (v0 : Option Nat) (v1 : Int32) (K : Unit → AH → Prop) (E : Nat → AH → Prop) (h : AH) : Prop :=
  gR h v0 [8] 16 fun x1 =>
  isO h v0 8 ∧ w_X8_starts g v0 x1 (fun _ h =>
  Lp1 (w_X8_behind_L10 g v0 v1 K E) 0 h) E0 h
def w_X8_asks (g : GT) (v0 : Option Nat) (v1 : Int32) (v2 : Int32) (K : Int32 → AH → Prop) (E : Nat → AH → Prop) (h : AH) : Prop :=
  (¬ v1 = 0 → (w_X8_in g v2 0 40 (fun x2 h =>
  (¬ x2 = 0 → (isO h v0 8 ∧ w_X8_behind g v0 v2 (fun _ h =>
  K 0 h) E0 h)) ∧ (x2 = 0 → (K 2 h))) E0 h)) ∧ (v1 = 0 → (K 1 h))
def w_X8_hasIt (g : GT) (v0 : Option Nat) (v1 : Int32) (v2 : Int32) (K : Int32 → AH → Prop) (E : Nat → AH → Prop) (h : AH) : Prop :=
  pV g h v0 [8] 0 (.int 0) fun h =>
  isO h v0 8 ∧ w_X8_isUmbrella g v0 v1 (fun x1 h =>
  isO h v0 8 ∧ w_X8_asks g v0 x1 v2 (fun x2 h =>
  (x2 ≤ 0 → (gR h v0 [8] 16 fun x4 =>
  aI h x4 0 (0 + v1) fun x5 =>
  isO h v0 8 ∧ w_X8_good g v0 x5 (fun x6 h =>
  K x6 h) E0 h)) ∧ (¬ x2 ≤ 0 → (isO h v0 8 ∧ w_X8_refused g v0 x2 (fun x7 h =>
  K x7 h) E0 h))) E0 h) E0 h
def w_X8_titleOf (g : GT) (v0 : Option Nat) (v1 : Int32) (v2 : Int32) (K : Int32 → AH → Prop) (E : Nat → AH → Prop) (h : AH) : Prop :=
  pV g h v0 [8] 0 (.int 0) fun h =>
  isO h v0 8 ∧ w_X8_isUmbrella g v0 v1 (fun x1 h =>
  isO h v0 8 ∧ w_X8_asks g v0 x1 v2 (fun x2 h =>
  (x2 ≤ 0 → (gR h v0 [8] 16 fun x4 =>
  aI h x4 0 (5 + v1) fun x5 =>
  isO h v0 8 ∧ w_X8_good g v0 x5 (fun x6 h =>
  K x6 h) E0 h)) ∧ (¬ x2 ≤ 0 → (isO h v0 8 ∧ w_X8_refused g v0 x2 (fun x7 h =>
  K x7 h) E0 h))) E0 h) E0 h
def w_X8_landsOf (g : GT) (v0 : Option Nat) (v1 : Int32) (v2 : Int32) (K : Int32 → AH → Prop) (E : Nat → AH → Prop) (h : AH) : Prop :=
  pV g h v0 [8] 0 (.int 0) fun h =>
  isO h v0 8 ∧ w_X8_isPerson g v0 v1 (fun x1 h =>
  isO h v0 8 ∧ w_X8_asks g v0 x1 v2 (fun x2 h =>
  (x2 ≤ 0 → (gR h v0 [8] 16 fun x4 =>
  isO h v0 8 ∧ w_X8_landsIn g v0 x4 v1 (fun x5 h =>
  isO h v0 8 ∧ w_X8_good g v0 x5 (fun x6 h =>
  K x6 h) E0 h) E0 h)) ∧ (¬ x2 ≤ 0 → (isO h v0 8 ∧ w_X8_refused g v0 x2 (fun x7 h =>
  K x7 h) E0 h))) E0 h) E0 h
def w_X8_lapsed_J18 (g : GT) (v0 : Option Nat) (v1 : Int32) (s0 : Int32) (s1 : Option Nat) (K : Int32 → AH → Prop) (E : Nat → AH → Prop) (h : AH) : Prop :=
  isO h s1 8 ∧ w_X8_asks g s1 s0 v1 (fun x3 h =>
  (x3 ≤ 0 → (gR h v0 [8] 16 fun x5 =>
  isO h v0 8 ∧ w_X8_landsIn g v0 x5 (-2) (fun x6 h =>
  isO h v0 8 ∧ w_X8_good g v0 x6 (fun x7 h =>
  K x7 h) E0 h) E0 h)) ∧ (¬ x3 ≤ 0 → (isO h v0 8 ∧ w_X8_refused g v0 x3 (fun x8 h =>
  K x8 h) E0 h))) E0 h
def w_X8_lapsed (g : GT) (v0 : Option Nat) (v1 : Int32) (K : Int32 → AH → Prop) (E : Nat → AH → Prop) (h : AH) : Prop :=
  pV g h v0 [8] 0 (.int 0) fun h =>
  gR h v0 [8] 3 fun x1 =>
  (x1 = none → (w_X8_lapsed_J18 g v0 v1 0 v0 K E h)) ∧ (¬ x1 = none → (w_X8_lapsed_J18 g v0 v1 1 v0 K E h))
def w_X8_passed_J71 (g : GT) (v0 : Option Nat) (v1 : Int32) (v3 : Int32) (s0 : Int32) (s1 : Int32) (K : Int32 → AH → Prop) (E : Nat → AH → Prop) (L31 : Int32 → Int32 → AH → Prop) (h : AH) : Prop :=
  nmI (s1 + s0) fun x11 =>
  nmI (v3 + 1) fun x12 =>
  L31 x11 x12 h
def w_X8_passed_L31 (g : GT) (v0 : Option Nat) (v1 : Int32) (K : Int32 → AH → Prop) (E : Nat → AH → Prop) (L31 : Int32 → Int32 → AH → Prop) (v2 : Int32) (v3 : Int32) (h : AH) : Prop :=
  (41 ≤ v3 → (isO h v0 8 ∧ w_X8_good g v0 v2 (fun x5 h =>
  K x5 h) E0 h)) ∧ (¬ 41 ≤ v3 → (gR h v0 [8] 16 fun x6 =>
  aI h x6 0 (5 + v1) fun x7 =>
  isO h v0 8 ∧ w_X8_goesBy g v0 v3 (fun _ h =>
  gR h v0 [8] 16 fun x8 =>
  aI h x8 0 (5 + v1) fun x9 =>
  (¬ x9 = x7 → (w_X8_passed_J71 g v0 v1 v3 1 v2 K E L31 h)) ∧ (x9 = x7 → (w_X8_passed_J71 g v0 v1 v3 0 v2 K E L31 h))) E0 h))
def w_X8_passed (g : GT) (v0 : Option Nat) (v1 : Int32) (K : Int32 → AH → Prop) (E : Nat → AH → Prop) (h : AH) : Prop :=
  pV g h v0 [8] 0 (.int 0) fun h =>
  isO h v0 8 ∧ w_X8_isUmbrella g v0 v1 (fun x1 h =>
  (¬ x1 = 0 → (gR h v0 [8] 16 fun x3 =>
  isO h v0 8 ∧ w_X8_starts g v0 x3 (fun _ h =>
  Lp2 (w_X8_passed_L31 g v0 v1 K E) 0 0 h) E0 h)) ∧ (x1 = 0 → (isO h v0 8 ∧ w_X8_refused g v0 1 (fun x13 h =>
  K x13 h) E0 h))) E0 h
def w_X8_longest_J96 (g : GT) (v0 : Option Nat) (v1 : Int32) (v2 : Int32) (v3 : Int32) (v4 : Int32) (v5 : Int32) (K : Int32 → AH → Prop) (E : Nat → AH → Prop) (L38 : Int32 → Int32 → Int32 → Int32 → AH → Prop) (h : AH) : Prop :=
  nmI (v5 + 1) fun x12 =>
  L38 v2 v3 v4 x12 h
def w_X8_longest_J71 (g : GT) (v0 : Option Nat) (v1 : Int32) (v2 : Int32) (v5 : Int32) (s0 : Int32) (K : Int32 → AH → Prop) (E : Nat → AH → Prop) (L38 : Int32 → Int32 → Int32 → Int32 → AH → Prop) (h : AH) : Prop :=
  gR h v0 [8] 16 fun x9 =>
  aI h x9 0 (5 + v1) fun x10 =>
  (x10 = (-2) → (w_X8_longest_J96 g v0 v1 v2 s0 x10 v5 K E L38 h)) ∧ (¬ x10 = (-2) → ((s0 ≤ v2 → (w_X8_longest_J96 g v0 v1 v2 s0 x10 v5 K E L38 h)) ∧ (¬ s0 ≤ v2 → (w_X8_longest_J96 g v0 v1 s0 s0 x10 v5 K E L38 h))))
def w_X8_longest_L38 (g : GT) (v0 : Option Nat) (v1 : Int32) (K : Int32 → AH → Prop) (E : Nat → AH → Prop) (L38 : Int32 → Int32 → Int32 → Int32 → AH → Prop) (v2 : Int32) (v3 : Int32) (v4 : Int32) (v5 : Int32) (h : AH) : Prop :=
  (41 ≤ v5 → (isO h v0 8 ∧ w_X8_good g v0 v2 (fun x5 h =>
  K x5 h) E0 h)) ∧ (¬ 41 ≤ v5 → (isO h v0 8 ∧ w_X8_goesBy g v0 v5 (fun _ h =>
  gR h v0 [8] 16 fun x6 =>
  aI h x6 0 (5 + v1) fun x7 =>
  (¬ x7 = v4 → (w_X8_longest_J71 g v0 v1 v2 v5 1 K E L38 h)) ∧ (x7 = v4 → (w_X8_longest_J71 g v0 v1 v2 v5 (v3 + 1) K E L38 h))) E0 h))
def w_X8_longest (g : GT) (v0 : Option Nat) (v1 : Int32) (K : Int32 → AH → Prop) (E : Nat → AH → Prop) (h : AH) : Prop :=
  pV g h v0 [8] 0 (.int 0) fun h =>
  isO h v0 8 ∧ w_X8_isUmbrella g v0 v1 (fun x1 h =>
  (¬ x1 = 0 → (gR h v0 [8] 16 fun x3 =>
  isO h v0 8 ∧ w_X8_starts g v0 x3 (fun _ h =>
  Lp4 (w_X8_longest_L38 g v0 v1 K E) 0 0 (-2) 0 h) E0 h)) ∧ (x1 = 0 → (isO h v0 8 ∧ w_X8_refused g v0 1 (fun x14 h =>
  K x14 h) E0 h))) E0 h
def w_X8_worstDay_J73 (g : GT) (v0 : Option Nat) (v1 : Int32) (v2 : Int32) (v3 : Int32) (K : Int32 → AH → Prop) (E : Nat → AH → Prop) (L32 : Int32 → Int32 → Int32 → AH → Prop) (h : AH) : Prop :=
  nmI (v3 + 1) fun x11 =>
  L32 v1 v2 x11 h
def w_X8_worstDay_L32 (g : GT) (v0 : Option Nat) (K : Int32 → AH → Prop) (E : Nat → AH → Prop) (L32 : Int32 → Int32 → Int32 → AH → Prop) (v1 : Int32) (v2 : Int32) (v3 : Int32) (h : AH) : Prop :=
  (41 ≤ v3 → (isO h v0 8 ∧ w_X8_good g v0 v1 (fun x5 h =>
  K x5 h) E0 h)) ∧ (¬ 41 ≤ v3 → (isO h v0 8 ∧ w_X8_goesBy g v0 v3 (fun _ h =>
  gR h v0 [8] 16 fun x6 =>
  isO h v0 8 ∧ w_X8_landsIn g v0 x6 (-2) (fun x7 h =>
  (v2 < x7 → (gR h v0 [8] 16 fun x9 =>
  isO h v0 8 ∧ w_X8_landsIn g v0 x9 (-2) (fun x10 h =>
  w_X8_worstDay_J73 g v0 v3 x10 v3 K E L32 h) E0 h)) ∧ (¬ v2 < x7 → (w_X8_worstDay_J73 g v0 v1 v2 v3 K E L32 h))) E0 h) E0 h))
def w_X8_worstDay (g : GT) (v0 : Option Nat) (K : Int32 → AH → Prop) (E : Nat → AH → Prop) (h : AH) : Prop :=
  pV g h v0 [8] 0 (.int 0) fun h =>
  gR h v0 [8] 3 fun x1 =>
  (¬ x1 = none → (gR h v0 [8] 16 fun x3 =>
  isO h v0 8 ∧ w_X8_starts g v0 x3 (fun _ h =>
  Lp3 (w_X8_worstDay_L32 g v0 K E) 0 (-1) 0 h) E0 h)) ∧ (x1 = none → (isO h v0 8 ∧ w_X8_refused g v0 1 (fun x12 h =>
  K x12 h) E0 h))
def w_X8_wrongClaim_J120 (g : GT) (v0 : Option Nat) (v1 : Int32) (v2 : Int32) (v3 : Int32) (v4 : Int32) (v5 : Int32) (K : Int32 → AH → Prop) (E : Nat → AH → Prop) (L15 : Int32 → Int32 → AH → Prop) (h : AH) : Prop :=
  nmI (v5 + 1) fun x6 =>
  L15 v4 x6 h
def w_X8_wrongClaim_J114 (g : GT) (v0 : Option Nat) (v1 : Int32) (v2 : Int32) (v3 : Int32) (v4 : Int32) (v5 : Int32) (v6 : Int32) (K : Int32 → AH → Prop) (E : Nat → AH → Prop) (L46 : Int32 → Int32 → AH → Prop) (h : AH) : Prop :=
  nmI (v6 + 1) fun x14 =>
  L46 v4 x14 h
def w_X8_wrongClaim_L46 (g : GT) (v0 : Option Nat) (v1 : Int32) (v2 : Int32) (v3 : Int32) (v5 : Int32) (K : Int32 → AH → Prop) (E : Nat → AH → Prop) (L15 : Int32 → Int32 → AH → Prop) (L46 : Int32 → Int32 → AH → Prop) (v4 : Int32) (v6 : Int32) (h : AH) : Prop :=
  (v4 ≤ v6 → (w_X8_wrongClaim_J120 g v0 v1 v2 v3 v4 v5 K E L15 h)) ∧ (¬ v4 ≤ v6 → (gR h v0 [8] 3 fun x7 =>
  gI h x7 [26] 6 fun x8 =>
  (x8 ≤ v6 → (w_X8_wrongClaim_J120 g v0 v1 v2 v3 v4 v5 K E L15 h)) ∧ (¬ x8 ≤ v6 → (gR h v0 [8] 3 fun x10 =>
  gR h x10 [26] 19 fun x11 =>
  aI h x11 0 v6 fun x12 =>
  (¬ x12 = v5 → (w_X8_wrongClaim_J114 g v0 v1 v2 v3 v4 v5 v6 K E L46 h)) ∧ (x12 = v5 → (gR h v0 [8] 16 fun x15 =>
  gR h v0 [8] 3 fun x16 =>
  gR h x16 [26] 18 fun x17 =>
  aI h x17 0 v6 fun x18 =>
  aI h x15 0 (5 + x18) fun x19 =>
  gR h v0 [8] 3 fun x20 =>
  gR h x20 [26] 17 fun x21 =>
  aI h x21 0 v6 fun x22 =>
  (x19 = x22 → (w_X8_wrongClaim_J114 g v0 v1 v2 v3 v4 v5 v6 K E L46 h)) ∧ (¬ x19 = x22 → (w_X8_wrongClaim_J114 g v0 v1 v2 v3 v6 v5 v6 K E L46 h))))))))
def w_X8_wrongClaim_J37 (g : GT) (v0 : Option Nat) (v1 : Int32) (v2 : Int32) (v3 : Int32) (v4 : Int32) (v5 : Int32) (K : Int32 → AH → Prop) (E : Nat → AH → Prop) (L15 : Int32 → Int32 → AH → Prop) (h : AH) : Prop :=
  isO h v0 8 ∧ w_X8_goesBy g v0 v5 (fun _ h =>
  Lp2 (w_X8_wrongClaim_L46 g v0 v1 v2 v3 v5 K E L15) v4 0 h) E0 h
def w_X8_wrongClaim_L15 (g : GT) (v0 : Option Nat) (v1 : Int32) (v2 : Int32) (v3 : Int32) (K : Int32 → AH → Prop) (E : Nat → AH → Prop) (L15 : Int32 → Int32 → AH → Prop) (v4 : Int32) (v5 : Int32) (h : AH) : Prop :=
  (41 ≤ v5 → ((¬ v4 = 6 → (K v4 h)) ∧ (v4 = 6 → (K (-2) h)))) ∧ (¬ 41 ≤ v5 → ((¬ v5 = v1 → (w_X8_wrongClaim_J37 g v0 v1 v2 v3 v4 v5 K E L15 h)) ∧ (v5 = v1 → (gR h v0 [8] 16 fun x24 =>
  w_X8_changes g x24 v2 v3 (fun _ h =>
  w_X8_wrongClaim_J37 g v0 v1 v2 v3 v4 v5 K E L15 h) E0 h))))
def w_X8_wrongClaim (g : GT) (v0 : Option Nat) (v1 : Int32) (v2 : Int32) (v3 : Int32) (K : Int32 → AH → Prop) (E : Nat → AH → Prop) (h : AH) : Prop :=
  gR h v0 [8] 16 fun x1 =>
  isO h v0 8 ∧ w_X8_starts g v0 x1 (fun _ h =>
  Lp2 (w_X8_wrongClaim_L15 g v0 v1 v2 v3 K E) 6 0 h) E0 h
def w_X8_judge (g : GT) (v0 : Option Nat) (K : Int32 → AH → Prop) (E : Nat → AH → Prop) (h : AH) : Prop :=
  pV g h v0 [8] 0 (.int 0) fun h =>
  gR h v0 [8] 3 fun x1 =>
  (¬ x1 = none → (isO h v0 8 ∧ w_X8_wrongClaim g v0 (-1) 0 0 (fun x3 h =>
  isO h v0 8 ∧ w_X8_good g v0 x3 (fun x4 h =>
  K x4 h) E0 h) E0 h)) ∧ (x1 = none → (isO h v0 8 ∧ w_X8_refused g v0 1 (fun x5 h =>
  K x5 h) E0 h))
def w_X8_countsWays_J122 (g : GT) (v0 : Option Nat) (v1 : Int32) (v2 : Int32) (v3 : Int32) (K : Int32 → AH → Prop) (E : Nat → AH → Prop) (L34 : Int32 → Int32 → AH → Prop) (h : AH) : Prop :=
  nmI (v3 + 1) fun x7 =>
  L34 v2 x7 h
def w_X8_countsWays_J119 (g : GT) (v0 : Option Nat) (v1 : Int32) (v2 : Int32) (v3 : Int32) (K : Int32 → AH → Prop) (E : Nat → AH → Prop) (L34 : Int32 → Int32 → AH → Prop) (h : AH) : Prop :=
  nmI (v2 + 1) fun x17 =>
  w_X8_countsWays_J122 g v0 v1 x17 v3 K E L34 h
def w_X8_countsWays_L34 (g : GT) (v0 : Option Nat) (v1 : Int32) (K : Int32 → AH → Prop) (E : Nat → AH → Prop) (L34 : Int32 → Int32 → AH → Prop) (v2 : Int32) (v3 : Int32) (h : AH) : Prop :=
  (4100 ≤ v3 → (K v2 h)) ∧ (¬ 4100 ≤ v3 → (nmI ((v3 / 10) - (v3 / 10) / 10 * 10) fun x4 =>
  nmI (v3 - v3 / 10 * 10) fun x5 =>
  (x5 ≤ x4 → (w_X8_countsWays_J122 g v0 v1 v2 v3 K E L34 h)) ∧ (¬ x5 ≤ x4 → (gR h v0 [8] 3 fun x8 =>
  gI h x8 [26] 4 fun x9 =>
  (x9 ≤ x5 → (w_X8_countsWays_J122 g v0 v1 v2 v3 K E L34 h)) ∧ (¬ x9 ≤ x5 → (gR h v0 [8] 3 fun x11 =>
  isO h x11 26 ∧ w_X26_areAlike g x11 x4 x5 (fun x12 h =>
  (x12 = 0 → (w_X8_countsWays_J122 g v0 v1 v2 v3 K E L34 h)) ∧ (¬ x12 = 0 → (isO h v0 8 ∧ w_X8_wrongClaim g v0 (v3 / 100) x4 x5 (fun x14 h =>
  (x14 = (-2) → ((¬ v2 = v1 → (w_X8_countsWays_J119 g v0 v1 v2 v3 K E L34 h)) ∧ (v2 = v1 → (pV g h v0 [8] 21 (.int v3) fun h =>
  w_X8_countsWays_J119 g v0 v1 v2 v3 K E L34 h)))) ∧ (¬ x14 = (-2) → (w_X8_countsWays_J122 g v0 v1 v2 v3 K E L34 h))) E0 h))) E0 h))))))
def w_X8_countsWays_J32 (g : GT) (v0 : Option Nat) (v1 : Int32) (v2 : Int32) (K : Int32 → AH → Prop) (E : Nat → AH → Prop) (h : AH) : Prop :=
  Lp2 (w_X8_countsWays_L34 g v0 v1 K E) v2 0 h
def w_X8_countsWays_J29 (g : GT) (v0 : Option Nat) (v1 : Int32) (v2 : Int32) (K : Int32 → AH → Prop) (E : Nat → AH → Prop) (h : AH) : Prop :=
  nmI (v2 + 1) fun x19 =>
  w_X8_countsWays_J32 g v0 v1 x19 K E h
def w_X8_countsWays (g : GT) (v0 : Option Nat) (v1 : Int32) (K : Int32 → AH → Prop) (E : Nat → AH → Prop) (h : AH) : Prop :=
  pV g h v0 [8] 21 (.int (-1)) fun h =>
  isO h v0 8 ∧ w_X8_wrongClaim g v0 (-1) 0 0 (fun x1 h =>
  (¬ x1 = (-2) → (w_X8_countsWays_J32 g v0 v1 0 K E h)) ∧ (x1 = (-2) → ((¬ v1 = 0 → (w_X8_countsWays_J29 g v0 v1 0 K E h)) ∧ (v1 = 0 → (pV g h v0 [8] 21 (.int (-2)) fun h =>
  w_X8_countsWays_J29 g v0 v1 0 K E h))))) E0 h
def w_X8_ways (g : GT) (v0 : Option Nat) (K : Int32 → AH → Prop) (E : Nat → AH → Prop) (h : AH) : Prop :=
  pV g h v0 [8] 0 (.int 0) fun h =>
  gR h v0 [8] 3 fun x1 =>
  (¬ x1 = none → (isO h v0 8 ∧ w_X8_countsWays g v0 (-1) (fun x3 h =>
  isO h v0 8 ∧ w_X8_good g v0 x3 (fun x4 h =>
  K x4 h) E0 h) E0 h)) ∧ (x1 = none → (isO h v0 8 ∧ w_X8_refused g v0 1 (fun x5 h =>
  K x5 h) E0 h))
def w_X8_wayAt_J42 (g : GT) (v0 : Option Nat) (K : Int32 → AH → Prop) (E : Nat → AH → Prop) (h : AH) : Prop :=
  isO h v0 8 ∧ w_X8_refused g v0 1 (fun x4 h =>
  K x4 h) E0 h
def w_X8_wayAt (g : GT) (v0 : Option Nat) (v1 : Int32) (K : Int32 → AH → Prop) (E : Nat → AH → Prop) (h : AH) : Prop :=
  pV g h v0 [8] 0 (.int 0) fun h =>
  gR h v0 [8] 3 fun x1 =>
  (¬ x1 = none → ((v1 < 0 → (w_X8_wayAt_J42 g v0 K E h)) ∧ (¬ v1 < 0 → (isO h v0 8 ∧ w_X8_countsWays g v0 v1 (fun x5 h =>
  (x5 ≤ v1 → (w_X8_wayAt_J42 g v0 K E h)) ∧ (¬ x5 ≤ v1 → (gI h v0 [8] 21 fun x7 =>
  isO h v0 8 ∧ w_X8_good g v0 x7 (fun x8 h =>
  K x8 h) E0 h))) E0 h)))) ∧ (x1 = none → (isO h v0 8 ∧ w_X8_refused g v0 1 (fun x9 h =>
  K x9 h) E0 h))
def w_X8_owing_J26 (g : GT) (v0 : Option Nat) (K : Int32 → AH → Prop) (E : Nat → AH → Prop) (h : AH) : Prop :=
  isO h v0 8 ∧ w_X8_refused g v0 1 (fun x3 h =>
  K x3 h) E0 h
def w_X8_owing_J84 (g : GT) (v0 : Option Nat) (v1 : Int32) (v2 : Int32) (v4 : Int32) (s0 : Int32) (s1 : Int32) (K : Int32 → AH → Prop) (E : Nat → AH → Prop) (L37 : Int32 → Int32 → AH → Prop) (h : AH) : Prop :=
  nmI (s1 ||| s0) fun x14 =>
  nmI (v4 + 1) fun x15 =>
  L37 x14 x15 h
def w_X8_owing_J83 (g : GT) (v0 : Option Nat) (v1 : Int32) (v2 : Int32) (v4 : Int32) (s0 : Int32) (K : Int32 → AH → Prop) (E : Nat → AH → Prop) (L37 : Int32 → Int32 → AH → Prop) (h : AH) : Prop :=
  w_X8_owing_J84 g v0 v1 v2 v4 0 s0 K E L37 h
def w_X8_owing_L37 (g : GT) (v0 : Option Nat) (v1 : Int32) (v2 : Int32) (K : Int32 → AH → Prop) (E : Nat → AH → Prop) (L37 : Int32 → Int32 → AH → Prop) (v3 : Int32) (v4 : Int32) (h : AH) : Prop :=
  gR h v0 [8] 3 fun x7 =>
  gI h x7 [26] 4 fun x8 =>
  (x8 ≤ v4 → (isO h v0 8 ∧ w_X8_good g v0 v3 (fun x10 h =>
  K x10 h) E0 h)) ∧ (¬ x8 ≤ v4 → (gR h v0 [8] 15 fun x11 =>
  aI h x11 0 (5 + v4) fun x12 =>
  (¬ x12 = v1 → (w_X8_owing_J83 g v0 v1 v2 v4 v3 K E L37 h)) ∧ (x12 = v1 → (gR h v0 [8] 15 fun x16 =>
  aI h x16 0 (0 + v4) fun x17 =>
  (¬ x17 = v2 → (w_X8_owing_J83 g v0 v1 v2 v4 v3 K E L37 h)) ∧ (x17 = v2 → (w_X8_owing_J84 g v0 v1 v2 v4 (1 <<< (v4 &&& 31)) v3 K E L37 h))))))
def w_X8_owing (g : GT) (v0 : Option Nat) (v1 : Int32) (v2 : Int32) (K : Int32 → AH → Prop) (E : Nat → AH → Prop) (h : AH) : Prop :=
  pV g h v0 [8] 0 (.int 0) fun h =>
  isO h v0 8 ∧ w_X8_isPerson g v0 v1 (fun x1 h =>
  (x1 = 0 → (w_X8_owing_J26 g v0 K E h)) ∧ (¬ x1 = 0 → (isO h v0 8 ∧ w_X8_isPerson g v0 v2 (fun x4 h =>
  (x4 = 0 → (w_X8_owing_J26 g v0 K E h)) ∧ (¬ x4 = 0 → ((¬ v1 = v2 → (Lp2 (w_X8_owing_L37 g v0 v1 v2 K E) 0 0 h)) ∧ (v1 = v2 → (w_X8_owing_J26 g v0 K E h))))) E0 h))) E0 h
def w_X8_tries_L2 (g : GT) (v0 : Option Nat) (K : Unit → AH → Prop) (E : Nat → AH → Prop) (L2 : Int32 → AH → Prop) (v1 : Int32) (h : AH) : Prop :=
  (11 ≤ v1 → (K () h)) ∧ (¬ 11 ≤ v1 → (gR h v0 [8] 16 fun x2 =>
  gR h v0 [8] 15 fun x3 =>
  aI h x3 0 v1 fun x4 =>
  sI g h x2 0 v1 x4 fun h =>
  nmI (v1 + 1) fun x5 =>
  L2 x5 h))
def w_X8_tries (g : GT) (v0 : Option Nat) (K : Unit → AH → Prop) (E : Nat → AH → Prop) (h : AH) : Prop :=
  Lp1 (w_X8_tries_L2 g v0 K E) 0 h
def w_X8_change (g : GT) (v0 : Option Nat) (v1 : Int32) (v2 : Int32) (K : Int32 → AH → Prop) (E : Nat → AH → Prop) (h : AH) : Prop :=
  pV g h v0 [8] 0 (.int 0) fun h =>
  isO h v0 8 ∧ w_X8_isPerson g v0 v1 (fun x1 h =>
  (¬ x1 = 0 → (isO h v0 8 ∧ w_X8_tries g v0 (fun _ h =>
  gR h v0 [8] 16 fun x3 =>
  isO h v0 8 ∧ w_X8_ends g v0 x3 v2 (fun _ h =>
  gR h v0 [8] 16 fun x4 =>
  isO h v0 8 ∧ w_X8_landsIn g v0 x4 v1 (fun x5 h =>
  gR h v0 [8] 15 fun x6 =>
  isO h v0 8 ∧ w_X8_landsIn g v0 x6 v1 (fun x7 h =>
  isO h v0 8 ∧ w_X8_good g v0 (x5 - x7) (fun x8 h =>
  K x8 h) E0 h) E0 h) E0 h) E0 h) E0 h)) ∧ (x1 = 0 → (isO h v0 8 ∧ w_X8_refused g v0 1 (fun x9 h =>
  K (-1000) h) E0 h))) E0 h
def w_X8_lapsesIn_L25 (g : GT) (v0 : Option Nat) (v1 : Int32) (K : Int32 → AH → Prop) (E : Nat → AH → Prop) (L25 : Int32 → AH → Prop) (v2 : Int32) (h : AH) : Prop :=
  (30 < v2 → (isO h v0 8 ∧ w_X8_good g v0 (-2) (fun x4 h =>
  K x4 h) E0 h)) ∧ (¬ 30 < v2 → (gR h v0 [8] 16 fun x5 =>
  aI h x5 0 (5 + v1) fun x6 =>
  (¬ x6 = (-2) → (gR h v0 [8] 16 fun x8 =>
  isO h v0 8 ∧ w_X8_ends g v0 x8 0 (fun _ h =>
  nmI (v2 + 1) fun x9 =>
  L25 x9 h) E0 h)) ∧ (x6 = (-2) → (isO h v0 8 ∧ w_X8_good g v0 v2 (fun x10 h =>
  K x10 h) E0 h))))
def w_X8_lapsesIn (g : GT) (v0 : Option Nat) (v1 : Int32) (K : Int32 → AH → Prop) (E : Nat → AH → Prop) (h : AH) : Prop :=
  pV g h v0 [8] 0 (.int 0) fun h =>
  isO h v0 8 ∧ w_X8_isUmbrella g v0 v1 (fun x1 h =>
  (¬ x1 = 0 → (isO h v0 8 ∧ w_X8_tries g v0 (fun _ h =>
  Lp1 (w_X8_lapsesIn_L25 g v0 v1 K E) 0 h) E0 h)) ∧ (x1 = 0 → (isO h v0 8 ∧ w_X8_refused g v0 1 (fun x11 h =>
  K x11 h) E0 h))) E0 h
def w_X8_canExchange (g : GT) (v0 : Option Nat) (v1 : Option Nat) (v2 : Int32) (v3 : Int32) (K : Int32 → AH → Prop) (E : Nat → AH → Prop) (h : AH) : Prop :=
  (v2 = v3 → (nz .boolean 0 (K 0 h))) ∧ (¬ v2 = v3 → (aI h v1 0 (0 + v2) fun x2 =>
  aI h v1 0 (0 + v3) fun x3 =>
  (x2 = x3 → (nz .boolean 0 (K 0 h))) ∧ (¬ x2 = x3 → (nz .boolean 1 (K 1 h)))))
def w_X8_isDone_L2 (g : GT) (v0 : Option Nat) (v1 : Int32) (K : Int32 → AH → Prop) (E : Nat → AH → Prop) (L2 : Int32 → AH → Prop) (v2 : Int32) (h : AH) : Prop :=
  (v1 ≤ v2 → (nz .boolean 1 (K 1 h))) ∧ (¬ v1 ≤ v2 → (gR h v0 [8] 22 fun x2 =>
  aI h x2 0 v2 fun x3 =>
  nmI (x3 / 10) fun x4 =>
  gR h v0 [8] 22 fun x5 =>
  aI h x5 0 v2 fun x6 =>
  nmI (x6 - x6 / 10 * 10) fun x7 =>
  (x7 ≤ x4 → (nz .boolean 0 (K 0 h))) ∧ (¬ x7 ≤ x4 → (gR h v0 [8] 3 fun x9 =>
  gI h x9 [26] 4 fun x10 =>
  (x10 ≤ x7 → (nz .boolean 0 (K 0 h))) ∧ (¬ x10 ≤ x7 → (gR h v0 [8] 16 fun x12 =>
  isO h v0 8 ∧ w_X8_canExchange g v0 x12 x4 x7 (fun x13 h =>
  (¬ x13 = 0 → (gR h v0 [8] 16 fun x15 =>
  w_X8_changes g x15 x4 x7 (fun _ h =>
  nmI (v2 + 1) fun x16 =>
  L2 x16 h) E0 h)) ∧ (x13 = 0 → (nz .boolean 0 (K 0 h)))) E0 h))))))
def w_X8_isDone (g : GT) (v0 : Option Nat) (v1 : Int32) (K : Int32 → AH → Prop) (E : Nat → AH → Prop) (h : AH) : Prop :=
  Lp1 (w_X8_isDone_L2 g v0 v1 K E) 0 h
def w_X8_takes_L33 (g : GT) (v0 : Option Nat) (v1 : Int32) (K : Unit → AH → Prop) (E : Nat → AH → Prop) (L33 : Int32 → AH → Prop) (v3 : Int32) (h : AH) : Prop :=
  (v1 ≤ v3 → (K () h)) ∧ (¬ v1 ≤ v3 → (gR h v0 [8] 23 fun x7 =>
  gR h v0 [8] 22 fun x8 =>
  aI h x8 0 v3 fun x9 =>
  sI g h x7 0 v3 x9 fun h =>
  nmI (v3 + 1) fun x10 =>
  L33 x10 h))
def w_X8_takes (g : GT) (v0 : Option Nat) (v1 : Int32) (K : Unit → AH → Prop) (E : Nat → AH → Prop) (h : AH) : Prop :=
  gR h v0 [8] 16 fun x1 =>
  isO h v0 8 ∧ w_X8_rightIn g v0 x1 (fun x2 h =>
  w_X8_bits g x2 (fun x3 h =>
  gI h v0 [8] 24 fun x4 =>
  (x4 < x3 → (pV g h v0 [8] 24 (.int x3) fun h =>
  pV g h v0 [8] 25 (.int v1) fun h =>
  Lp1 (w_X8_takes_L33 g v0 v1 K E) 0 h)) ∧ (¬ x4 < x3 → (K () h))) E0 h) E0 h
def w_X8_nextRow_L4 (g : GT) (v0 : Option Nat) (K : Int32 → AH → Prop) (E : Nat → AH → Prop) (L4 : Int32 → AH → Prop) (v2 : Int32) (h : AH) : Prop :=
  (v2 < 0 → (nz .boolean 0 (K 0 h))) ∧ (¬ v2 < 0 → (gR h v0 [8] 22 fun x3 =>
  aI h x3 0 v2 fun x4 =>
  sI g h x3 0 v2 (x4 + 1) fun h =>
  gR h v0 [8] 22 fun x5 =>
  aI h x5 0 v2 fun x6 =>
  (50 ≤ x6 → (gR h v0 [8] 22 fun x8 =>
  sI g h x8 0 v2 0 fun h =>
  nmI (v2 + (-1)) fun x9 =>
  L4 x9 h)) ∧ (¬ 50 ≤ x6 → (nz .boolean 1 (K 1 h)))))
def w_X8_nextRow (g : GT) (v0 : Option Nat) (v1 : Int32) (K : Int32 → AH → Prop) (E : Nat → AH → Prop) (h : AH) : Prop :=
  nmI (v1 - 1) fun x1 =>
  Lp1 (w_X8_nextRow_L4 g v0 K E) x1 h
def w_X8_seeks_J55 (g : GT) (v0 : Option Nat) (v1 : Int32) (K : Unit → AH → Prop) (E : Nat → AH → Prop) (L34 : Int32 → AH → Prop) (h : AH) : Prop :=
  isO h v0 8 ∧ w_X8_nextRow g v0 v1 (fun x7 h =>
  L34 x7 h) E0 h
def w_X8_seeks_L34 (g : GT) (v0 : Option Nat) (v1 : Int32) (K : Unit → AH → Prop) (E : Nat → AH → Prop) (L7 : Int32 → AH → Prop) (L34 : Int32 → AH → Prop) (v2 : Int32) (h : AH) : Prop :=
  (v2 = 0 → (nmI (v1 + 1) fun x4 =>
  L7 x4 h)) ∧ (¬ v2 = 0 → (isO h v0 8 ∧ w_X8_tries g v0 (fun _ h =>
  isO h v0 8 ∧ w_X8_isDone g v0 v1 (fun x5 h =>
  (x5 = 0 → (w_X8_seeks_J55 g v0 v1 K E L34 h)) ∧ (¬ x5 = 0 → (isO h v0 8 ∧ w_X8_takes g v0 v1 (fun _ h =>
  w_X8_seeks_J55 g v0 v1 K E L34 h) E0 h))) E0 h) E0 h))
def w_X8_seeks_L14 (g : GT) (v0 : Option Nat) (v1 : Int32) (K : Unit → AH → Prop) (E : Nat → AH → Prop) (L7 : Int32 → AH → Prop) (L14 : Int32 → AH → Prop) (v2 : Int32) (h : AH) : Prop :=
  (v1 ≤ v2 → (Lp1 (w_X8_seeks_L34 g v0 v1 K E L7) 1 h)) ∧ (¬ v1 ≤ v2 → (gR h v0 [8] 22 fun x8 =>
  sI g h x8 0 v2 0 fun h =>
  nmI (v2 + 1) fun x9 =>
  L14 x9 h))
def w_X8_seeks_L7 (g : GT) (v0 : Option Nat) (K : Unit → AH → Prop) (E : Nat → AH → Prop) (L7 : Int32 → AH → Prop) (v1 : Int32) (h : AH) : Prop :=
  (3 < v1 → (K () h)) ∧ (¬ 3 < v1 → (Lp1 (w_X8_seeks_L14 g v0 v1 K E L7) 0 h))
def w_X8_seeks (g : GT) (v0 : Option Nat) (K : Unit → AH → Prop) (E : Nat → AH → Prop) (h : AH) : Prop :=
  pV g h v0 [8] 24 (.int (-1)) fun h =>
  Lp1 (w_X8_seeks_L7 g v0 K E) 0 h
def w_X8_putRight (g : GT) (v0 : Option Nat) (K : Int32 → AH → Prop) (E : Nat → AH → Prop) (h : AH) : Prop :=
  pV g h v0 [8] 0 (.int 0) fun h =>
  gR h v0 [8] 3 fun x1 =>
  (¬ x1 = none → (isO h v0 8 ∧ w_X8_seeks g v0 (fun _ h =>
  gI h v0 [8] 24 fun x3 =>
  isO h v0 8 ∧ w_X8_good g v0 x3 (fun x4 h =>
  K x4 h) E0 h) E0 h)) ∧ (x1 = none → (isO h v0 8 ∧ w_X8_refused g v0 1 (fun x5 h =>
  K x5 h) E0 h))
def w_X8_exchanges (g : GT) (v0 : Option Nat) (K : Int32 → AH → Prop) (E : Nat → AH → Prop) (h : AH) : Prop :=
  pV g h v0 [8] 0 (.int 0) fun h =>
  gR h v0 [8] 3 fun x1 =>
  (¬ x1 = none → (isO h v0 8 ∧ w_X8_seeks g v0 (fun _ h =>
  gI h v0 [8] 25 fun x3 =>
  isO h v0 8 ∧ w_X8_good g v0 x3 (fun x4 h =>
  K x4 h) E0 h) E0 h)) ∧ (x1 = none → (isO h v0 8 ∧ w_X8_refused g v0 1 (fun x5 h =>
  K x5 h) E0 h))
def w_X8_exchangeAt_J47 (g : GT) (v0 : Option Nat) (K : Int32 → AH → Prop) (E : Nat → AH → Prop) (h : AH) : Prop :=
  isO h v0 8 ∧ w_X8_refused g v0 1 (fun x4 h =>
  K x4 h) E0 h
def w_X8_exchangeAt (g : GT) (v0 : Option Nat) (v1 : Int32) (K : Int32 → AH → Prop) (E : Nat → AH → Prop) (h : AH) : Prop :=
  pV g h v0 [8] 0 (.int 0) fun h =>
  gR h v0 [8] 3 fun x1 =>
  (¬ x1 = none → (isO h v0 8 ∧ w_X8_seeks g v0 (fun _ h =>
  (v1 < 0 → (w_X8_exchangeAt_J47 g v0 K E h)) ∧ (¬ v1 < 0 → (gI h v0 [8] 25 fun x5 =>
  (x5 ≤ v1 → (w_X8_exchangeAt_J47 g v0 K E h)) ∧ (¬ x5 ≤ v1 → (gR h v0 [8] 23 fun x7 =>
  aI h x7 0 v1 fun x8 =>
  isO h v0 8 ∧ w_X8_good g v0 x8 (fun x9 h =>
  K x9 h) E0 h))))) E0 h)) ∧ (x1 = none → (isO h v0 8 ∧ w_X8_refused g v0 1 (fun x10 h =>
  K x10 h) E0 h))
def w_X8_isParty (g : GT) (v0 : Option Nat) (v1 : Int32) (K : Int32 → AH → Prop) (E : Nat → AH → Prop) (h : AH) : Prop :=
  gR h v0 [8] 3 fun x1 =>
  (x1 = none → (nz .boolean 0 (K 0 h))) ∧ (¬ x1 = none → (gR h v0 [8] 3 fun x3 =>
  gI h x3 [26] 3 fun x4 =>
  w_X8_in g v1 1 ((1 <<< (x4 &&& 31)) - 1) (fun x5 h =>
  (x5 = 0 → (nz .boolean 0 (K 0 h))) ∧ (¬ x5 = 0 → (nz .boolean 1 (K 1 h)))) E0 h))
def w_X8_bit (g : GT) (v0 : Int32) (v1 : Int32) (K : Int32 → AH → Prop) (E : Nat → AH → Prop) (h : AH) : Prop :=
  (¬ ((v0 >>> (v1 &&& 31)) &&& 1) = 1 → (nz .boolean 0 (K 0 h))) ∧ (((v0 >>> (v1 &&& 31)) &&& 1) = 1 → (nz .boolean 1 (K 1 h)))
def w_X8_roomOf (g : GT) (v0 : Option Nat) (v1 : Int32) (v2 : Int32) (K : Int32 → AH → Prop) (E : Nat → AH → Prop) (h : AH) : Prop :=
  gR h v0 [8] 15 fun x1 =>
  aI h x1 0 (0 + v1) fun x2 =>
  (x2 = (-2) → (K 0 h)) ∧ (¬ x2 = (-2) → (gR h v0 [8] 15 fun x4 =>
  aI h x4 0 (0 + v1) fun x5 =>
  w_X8_bit g v2 x5 (fun x6 h =>
  (x6 = 0 → (K 0 h)) ∧ (¬ x6 = 0 → (gR h v0 [8] 3 fun x8 =>
  gR h x8 [26] 11 fun x9 =>
  aI h x9 0 v1 fun x10 =>
  K (x10 / 4) h))) E0 h))
def w_X8_dangerOf_J119 (g : GT) (v0 : Option Nat) (v1 : Int32) (v2 : Int32) (v3 : Int32) (K : Int32 → AH → Prop) (E : Nat → AH → Prop) (L35 : Int32 → Int32 → AH → Prop) (h : AH) : Prop :=
  nmI (v3 + 1) fun x23 =>
  L35 v2 x23 h
def w_X8_dangerOf_J117 (g : GT) (v0 : Option Nat) (v1 : Int32) (v3 : Int32) (s0 : Int32) (s1 : Int32) (K : Int32 → AH → Prop) (E : Nat → AH → Prop) (L35 : Int32 → Int32 → AH → Prop) (h : AH) : Prop :=
  nmI (s1 + s0) fun x22 =>
  w_X8_dangerOf_J119 g v0 v1 x22 v3 K E L35 h
def w_X8_dangerOf_L35 (g : GT) (v0 : Option Nat) (v1 : Int32) (K : Int32 → AH → Prop) (E : Nat → AH → Prop) (L35 : Int32 → Int32 → AH → Prop) (v2 : Int32) (v3 : Int32) (h : AH) : Prop :=
  gR h v0 [8] 3 fun x4 =>
  gI h x4 [26] 3 fun x5 =>
  (x5 ≤ v3 → (K v2 h)) ∧ (¬ x5 ≤ v3 → (w_X8_bit g v1 v3 (fun x7 h =>
  (¬ x7 = 0 → (gR h v0 [8] 26 fun x9 =>
  aI h x9 0 v3 fun x10 =>
  gR h v0 [8] 28 fun x11 =>
  aI h x11 0 x10 fun x12 =>
  sI g h x11 0 x10 (x12 - 1) fun h =>
  gR h v0 [8] 28 fun x13 =>
  aI h x13 0 x10 fun x14 =>
  (0 ≤ x14 → (gR h v0 [8] 15 fun x16 =>
  aI h x16 0 (5 + x10) fun x17 =>
  (¬ x17 = v3 → (gR h v0 [8] 3 fun x19 =>
  gR h x19 [26] 10 fun x20 =>
  aI h x20 0 x10 fun x21 =>
  w_X8_dangerOf_J117 g v0 v1 v3 x21 v2 K E L35 h)) ∧ (x17 = v3 → (w_X8_dangerOf_J117 g v0 v1 v3 0 v2 K E L35 h)))) ∧ (¬ 0 ≤ x14 → (K (-2) h)))) ∧ (x7 = 0 → (w_X8_dangerOf_J119 g v0 v1 v2 v3 K E L35 h))) E0 h))
def w_X8_dangerOf_L4 (g : GT) (v0 : Option Nat) (v1 : Int32) (v2 : Int32) (K : Int32 → AH → Prop) (E : Nat → AH → Prop) (L4 : Int32 → AH → Prop) (v3 : Int32) (h : AH) : Prop :=
  gR h v0 [8] 3 fun x1 =>
  gI h x1 [26] 4 fun x2 =>
  (x2 ≤ v3 → (Lp2 (w_X8_dangerOf_L35 g v0 v1 K E) v2 0 h)) ∧ (¬ x2 ≤ v3 → (gR h v0 [8] 28 fun x24 =>
  isO h v0 8 ∧ w_X8_roomOf g v0 v3 v1 (fun x25 h =>
  sI g h x24 0 v3 x25 fun h =>
  nmI (v3 + 1) fun x26 =>
  L4 x26 h) E0 h))
def w_X8_dangerOf (g : GT) (v0 : Option Nat) (v1 : Int32) (K : Int32 → AH → Prop) (E : Nat → AH → Prop) (h : AH) : Prop :=
  Lp1 (w_X8_dangerOf_L4 g v0 v1 0 K E) 0 h
def w_X8_nextUnder_J60 (g : GT) (v0 : Option Nat) (v1 : Int32) (v2 : Int32) (K : Int32 → AH → Prop) (E : Nat → AH → Prop) (L10 : Int32 → AH → Prop) (h : AH) : Prop :=
  nmI (v2 + (-1)) fun x15 =>
  L10 x15 h
def w_X8_nextUnder_L10 (g : GT) (v0 : Option Nat) (v1 : Int32) (K : Int32 → AH → Prop) (E : Nat → AH → Prop) (L10 : Int32 → AH → Prop) (v2 : Int32) (h : AH) : Prop :=
  (v2 < 0 → (nz .boolean 0 (K 0 h))) ∧ (¬ v2 < 0 → (w_X8_bit g v1 v2 (fun x5 h =>
  (¬ x5 = 0 → (gR h v0 [8] 26 fun x7 =>
  aI h x7 0 v2 fun x8 =>
  sI g h x7 0 v2 (x8 + 1) fun h =>
  gR h v0 [8] 26 fun x9 =>
  aI h x9 0 v2 fun x10 =>
  gR h v0 [8] 3 fun x11 =>
  gI h x11 [26] 4 fun x12 =>
  (x12 ≤ x10 → (gR h v0 [8] 26 fun x14 =>
  sI g h x14 0 v2 0 fun h =>
  w_X8_nextUnder_J60 g v0 v1 v2 K E L10 h)) ∧ (¬ x12 ≤ x10 → (nz .boolean 1 (K 1 h))))) ∧ (x5 = 0 → (w_X8_nextUnder_J60 g v0 v1 v2 K E L10 h))) E0 h))
def w_X8_nextUnder (g : GT) (v0 : Option Nat) (v1 : Int32) (K : Int32 → AH → Prop) (E : Nat → AH → Prop) (h : AH) : Prop :=
  gR h v0 [8] 3 fun x1 =>
  gI h x1 [26] 3 fun x2 =>
  nmI (x2 - 1) fun x3 =>
  Lp1 (w_X8_nextUnder_L10 g v0 v1 K E) x3 h
def w_X8_parties_J97 (g : GT) (v0 : Option Nat) (v1 : Int32) (K : Unit → AH → Prop) (E : Nat → AH → Prop) (L29 : Int32 → AH → Prop) (h : AH) : Prop :=
  isO h v0 8 ∧ w_X8_nextUnder g v0 v1 (fun x5 h =>
  L29 x5 h) E0 h
def w_X8_parties_L70 (g : GT) (v0 : Option Nat) (v1 : Int32) (K : Unit → AH → Prop) (E : Nat → AH → Prop) (L29 : Int32 → AH → Prop) (L70 : Int32 → AH → Prop) (v4 : Int32) (h : AH) : Prop :=
  (6 ≤ v4 → (w_X8_parties_J97 g v0 v1 K E L29 h)) ∧ (¬ 6 ≤ v4 → (gR h v0 [8] 27 fun x9 =>
  gR h v0 [8] 26 fun x10 =>
  aI h x10 0 v4 fun x11 =>
  sI g h x9 0 v4 x11 fun h =>
  nmI (v4 + 1) fun x12 =>
  L70 x12 h))
def w_X8_parties_J62 (g : GT) (v0 : Option Nat) (v1 : Int32) (v3 : Int32) (K : Unit → AH → Prop) (E : Nat → AH → Prop) (L29 : Int32 → AH → Prop) (h : AH) : Prop :=
  pV g h v0 [8] 29 (.int v3) fun h =>
  Lp1 (w_X8_parties_L70 g v0 v1 K E L29) 0 h
def w_X8_parties_L29 (g : GT) (v0 : Option Nat) (v1 : Int32) (K : Unit → AH → Prop) (E : Nat → AH → Prop) (L29 : Int32 → AH → Prop) (v2 : Int32) (h : AH) : Prop :=
  (v2 = 0 → (K () h)) ∧ (¬ v2 = 0 → (isO h v0 8 ∧ w_X8_dangerOf g v0 v1 (fun x3 h =>
  (x3 = (-2) → (w_X8_parties_J97 g v0 v1 K E L29 h)) ∧ (¬ x3 = (-2) → (gI h v0 [8] 29 fun x6 =>
  (x6 = (-2) → (w_X8_parties_J62 g v0 v1 x3 K E L29 h)) ∧ (¬ x6 = (-2) → (gI h v0 [8] 29 fun x13 =>
  (x13 ≤ x3 → (w_X8_parties_J97 g v0 v1 K E L29 h)) ∧ (¬ x13 ≤ x3 → (w_X8_parties_J62 g v0 v1 x3 K E L29 h))))))) E0 h))
def w_X8_parties_L8 (g : GT) (v0 : Option Nat) (v1 : Int32) (K : Unit → AH → Prop) (E : Nat → AH → Prop) (L8 : Int32 → AH → Prop) (v2 : Int32) (h : AH) : Prop :=
  (6 ≤ v2 → (Lp1 (w_X8_parties_L29 g v0 v1 K E) 1 h)) ∧ (¬ 6 ≤ v2 → (gR h v0 [8] 26 fun x15 =>
  sI g h x15 0 v2 0 fun h =>
  nmI (v2 + 1) fun x16 =>
  L8 x16 h))
def w_X8_parties (g : GT) (v0 : Option Nat) (v1 : Int32) (K : Unit → AH → Prop) (E : Nat → AH → Prop) (h : AH) : Prop :=
  pV g h v0 [8] 29 (.int (-2)) fun h =>
  Lp1 (w_X8_parties_L8 g v0 v1 K E) 0 h
def w_X8_party (g : GT) (v0 : Option Nat) (v1 : Int32) (K : Int32 → AH → Prop) (E : Nat → AH → Prop) (h : AH) : Prop :=
  pV g h v0 [8] 0 (.int 0) fun h =>
  isO h v0 8 ∧ w_X8_isParty g v0 v1 (fun x1 h =>
  (¬ x1 = 0 → (isO h v0 8 ∧ w_X8_parties g v0 v1 (fun _ h =>
  gI h v0 [8] 29 fun x3 =>
  isO h v0 8 ∧ w_X8_good g v0 x3 (fun x4 h =>
  K x4 h) E0 h) E0 h)) ∧ (x1 = 0 → (isO h v0 8 ∧ w_X8_refused g v0 1 (fun x5 h =>
  K x5 h) E0 h))) E0 h
def w_X8_partyOf_J21 (g : GT) (v0 : Option Nat) (K : Int32 → AH → Prop) (E : Nat → AH → Prop) (h : AH) : Prop :=
  isO h v0 8 ∧ w_X8_refused g v0 1 (fun x3 h =>
  K x3 h) E0 h
def w_X8_partyOf_J68 (g : GT)  (s0 : Int32) (s1 : Option Nat) (K : Int32 → AH → Prop) (E : Nat → AH → Prop) (h : AH) : Prop :=
  isO h s1 8 ∧ w_X8_good g s1 s0 (fun x10 h =>
  K x10 h) E0 h
def w_X8_partyOf (g : GT) (v0 : Option Nat) (v1 : Int32) (v2 : Int32) (K : Int32 → AH → Prop) (E : Nat → AH → Prop) (h : AH) : Prop :=
  pV g h v0 [8] 0 (.int 0) fun h =>
  isO h v0 8 ∧ w_X8_isParty g v0 v1 (fun x1 h =>
  (x1 = 0 → (w_X8_partyOf_J21 g v0 K E h)) ∧ (¬ x1 = 0 → (isO h v0 8 ∧ w_X8_isPerson g v0 v2 (fun x4 h =>
  (¬ x4 = 0 → (isO h v0 8 ∧ w_X8_parties g v0 v1 (fun _ h =>
  gI h v0 [8] 29 fun x6 =>
  (¬ x6 = (-2) → (w_X8_bit g v1 v2 (fun x8 h =>
  (x8 = 0 → (w_X8_partyOf_J68 g  (-2) v0 K E h)) ∧ (¬ x8 = 0 → (gR h v0 [8] 27 fun x11 =>
  aI h x11 0 v2 fun x12 =>
  w_X8_partyOf_J68 g  x12 v0 K E h))) E0 h)) ∧ (x6 = (-2) → (isO h v0 8 ∧ w_X8_refused g v0 6 (fun x13 h =>
  K x13 h) E0 h))) E0 h)) ∧ (x4 = 0 → (w_X8_partyOf_J21 g v0 K E h))) E0 h))) E0 h
def w_X8_guest_J95 (g : GT) (v0 : Option Nat) (v1 : Int32) (v2 : Int32) (v3 : Int32) (v4 : Int32) (K : Int32 → AH → Prop) (E : Nat → AH → Prop) (L27 : Int32 → Int32 → Int32 → AH → Prop) (h : AH) : Prop :=
  nmI (v4 + 1) fun x11 =>
  L27 v2 v3 x11 h
def w_X8_guest_J87 (g : GT) (v0 : Option Nat) (v1 : Int32) (v4 : Int32) (K : Int32 → AH → Prop) (E : Nat → AH → Prop) (L27 : Int32 → Int32 → Int32 → AH → Prop) (h : AH) : Prop :=
  gI h v0 [8] 29 fun x13 =>
  w_X8_guest_J95 g v0 v1 v4 x13 v4 K E L27 h
def w_X8_guest_L27 (g : GT) (v0 : Option Nat) (v1 : Int32) (K : Int32 → AH → Prop) (E : Nat → AH → Prop) (L27 : Int32 → Int32 → Int32 → AH → Prop) (v2 : Int32) (v3 : Int32) (v4 : Int32) (h : AH) : Prop :=
  gR h v0 [8] 3 fun x3 =>
  gI h x3 [26] 3 fun x4 =>
  (x4 ≤ v4 → (isO h v0 8 ∧ w_X8_good g v0 v2 (fun x6 h =>
  K x6 h) E0 h)) ∧ (¬ x4 ≤ v4 → (w_X8_bit g v1 v4 (fun x7 h =>
  (x7 = 0 → (isO h v0 8 ∧ w_X8_parties g v0 (v1 ||| (1 <<< (v4 &&& 31))) (fun _ h =>
  gI h v0 [8] 29 fun x9 =>
  (x9 = (-2) → (w_X8_guest_J95 g v0 v1 v2 v3 v4 K E L27 h)) ∧ (¬ x9 = (-2) → ((v2 = (-2) → (w_X8_guest_J87 g v0 v1 v4 K E L27 h)) ∧ (¬ v2 = (-2) → (gI h v0 [8] 29 fun x14 =>
  (x14 < v3 → (w_X8_guest_J87 g v0 v1 v4 K E L27 h)) ∧ (¬ x14 < v3 → (w_X8_guest_J95 g v0 v1 v2 v3 v4 K E L27 h))))))) E0 h)) ∧ (¬ x7 = 0 → (w_X8_guest_J95 g v0 v1 v2 v3 v4 K E L27 h))) E0 h))
def w_X8_guest (g : GT) (v0 : Option Nat) (v1 : Int32) (K : Int32 → AH → Prop) (E : Nat → AH → Prop) (h : AH) : Prop :=
  pV g h v0 [8] 0 (.int 0) fun h =>
  isO h v0 8 ∧ w_X8_isParty g v0 v1 (fun x1 h =>
  (¬ x1 = 0 → (Lp3 (w_X8_guest_L27 g v0 v1 K E) (-2) 0 0 h)) ∧ (x1 = 0 → (isO h v0 8 ∧ w_X8_refused g v0 1 (fun x16 h =>
  K x16 h) E0 h))) E0 h
def w_X8_room_L23 (g : GT) (v0 : Option Nat) (v1 : Int32) (K : Int32 → AH → Prop) (E : Nat → AH → Prop) (L23 : Int32 → Int32 → AH → Prop) (v2 : Int32) (v3 : Int32) (h : AH) : Prop :=
  gR h v0 [8] 3 fun x3 =>
  gI h x3 [26] 4 fun x4 =>
  (x4 ≤ v3 → (isO h v0 8 ∧ w_X8_good g v0 v2 (fun x6 h =>
  K x6 h) E0 h)) ∧ (¬ x4 ≤ v3 → (isO h v0 8 ∧ w_X8_roomOf g v0 v3 v1 (fun x7 h =>
  nmI (v2 + x7) fun x8 =>
  nmI (v3 + 1) fun x9 =>
  L23 x8 x9 h) E0 h))
def w_X8_room (g : GT) (v0 : Option Nat) (v1 : Int32) (K : Int32 → AH → Prop) (E : Nat → AH → Prop) (h : AH) : Prop :=
  pV g h v0 [8] 0 (.int 0) fun h =>
  isO h v0 8 ∧ w_X8_isParty g v0 v1 (fun x1 h =>
  (¬ x1 = 0 → (Lp2 (w_X8_room_L23 g v0 v1 K E) 0 0 h)) ∧ (x1 = 0 → (isO h v0 8 ∧ w_X8_refused g v0 1 (fun x10 h =>
  K x10 h) E0 h))) E0 h
def w_X8_calm_J34 (g : GT)  (s0 : Int32) (s1 : Int64) (K : Int64 → AH → Prop) (E : Nat → AH → Prop) (h : AH) : Prop :=
  K (s1 - s0.toInt64) h
def w_X8_calm (g : GT) (v0 : Option Nat) (v1 : Int32) (K : Int64 → AH → Prop) (E : Nat → AH → Prop) (h : AH) : Prop :=
  gR h v0 [8] 3 fun x1 =>
  gR h x1 [26] 9 fun x2 =>
  aI h x2 0 v1 fun x3 =>
  (¬ x3 = 0 → (gR h v0 [8] 3 fun x5 =>
  gI h x5 [26] 1 fun x6 =>
  w_X8_calm_J34 g  x6 100 K E h)) ∧ (x3 = 0 → (gR h v0 [8] 3 fun x7 =>
  gI h x7 [26] 1 fun x8 =>
  w_X8_calm_J34 g  (x8 / 2) 100 K E h))
def w_X8_power_L5 (g : GT) (v0 : Int64) (v2 : Int32) (K : Int64 → AH → Prop) (E : Nat → AH → Prop) (L5 : Int64 → Int32 → AH → Prop) (v3 : Int64) (v5 : Int32) (h : AH) : Prop :=
  (v2 ≤ v5 → (K v3 h)) ∧ (¬ v2 ≤ v5 → (nmJ (v3 * v0) fun x2 =>
  nmI (v5 + 1) fun x3 =>
  L5 x2 x3 h))
def w_X8_power (g : GT) (v0 : Int64) (v2 : Int32) (K : Int64 → AH → Prop) (E : Nat → AH → Prop) (h : AH) : Prop :=
  Lp2 (w_X8_power_L5 g v0 v2 K E) 1 0 h
def w_X8_common_L6 (g : GT)  (K : Int64 → AH → Prop) (E : Nat → AH → Prop) (L6 : Int64 → Int64 → AH → Prop) (v4 : Int64) (v6 : Int64) (h : AH) : Prop :=
  ((lg_cmp v6 0) = 0 → (K v4 h)) ∧ (¬ (lg_cmp v6 0) = 0 → (dzJ v6 (nmJ (v4 - v4 / v6 * v6) fun x3 =>
  L6 v6 x3 h)))
def w_X8_common (g : GT) (v0 : Int64) (v2 : Int64) (K : Int64 → AH → Prop) (E : Nat → AH → Prop) (h : AH) : Prop :=
  Lp2 (w_X8_common_L6 g  K E) v0 v2 h
def w_X8_fraction_J16 (g : GT) (v1 : Int64) (v3 : Int64) (s0 : Int64) (K : Int64 → AH → Prop) (E : Nat → AH → Prop) (h : AH) : Prop :=
  w_X8_common g v1 v3 (fun x3 h =>
  dzJ x3 (K (s0 / x3) h)) E0 h
def w_X8_fraction (g : GT) (v0 : Option Nat) (v1 : Int64) (v3 : Int64) (v5 : Int32) (K : Int64 → AH → Prop) (E : Nat → AH → Prop) (h : AH) : Prop :=
  isO h v0 8 ∧ w_X8_good g v0 0 (fun x1 h =>
  (v5 = 0 → (w_X8_fraction_J16 g v1 v3 v1 K E h)) ∧ (¬ v5 = 0 → (w_X8_fraction_J16 g v1 v3 v3 K E h))) E0 h
def w_X8_whole (g : GT) (v0 : Option Nat) (v1 : Int32) (v2 : Int32) (v3 : Int32) (K : Int64 → AH → Prop) (E : Nat → AH → Prop) (h : AH) : Prop :=
  pV g h v0 [8] 0 (.int 0) fun h =>
  isO h v0 8 ∧ w_X8_isUmbrella g v0 v1 (fun x1 h =>
  (¬ x1 = 0 → (w_X8_in g v2 0 6 (fun x3 h =>
  (x3 = 0 → (isO h v0 8 ∧ w_X8_refused g v0 2 (fun x5 h =>
  K x5.toInt64 h) E0 h)) ∧ (¬ x3 = 0 → (isO h v0 8 ∧ w_X8_calm g v0 v1 (fun x6 h =>
  w_X8_power g x6 v2 (fun x7 h =>
  w_X8_power g 100 v2 (fun x8 h =>
  isO h v0 8 ∧ w_X8_fraction g v0 x7 x8 v3 (fun x9 h =>
  K x9 h) E0 h) E0 h) E0 h) E0 h))) E0 h)) ∧ (x1 = 0 → (isO h v0 8 ∧ w_X8_refused g v0 1 (fun x10 h =>
  K x10.toInt64 h) E0 h))) E0 h
def w_X8_allWhole_J100 (g : GT) (v0 : Option Nat) (v1 : Int32) (v2 : Int32) (v3 : Int32) (v4 : Int64) (v6 : Int64) (v8 : Int32) (K : Int64 → AH → Prop) (E : Nat → AH → Prop) (L45 : Int64 → Int64 → Int32 → AH → Prop) (h : AH) : Prop :=
  nmI (v8 + 1) fun x17 =>
  L45 v4 v6 x17 h
def w_X8_allWhole_L45 (g : GT) (v0 : Option Nat) (v1 : Int32) (v2 : Int32) (v3 : Int32) (K : Int64 → AH → Prop) (E : Nat → AH → Prop) (L45 : Int64 → Int64 → Int32 → AH → Prop) (v4 : Int64) (v6 : Int64) (v8 : Int32) (h : AH) : Prop :=
  gR h v0 [8] 3 fun x5 =>
  gI h x5 [26] 4 fun x6 =>
  (x6 ≤ v8 → (isO h v0 8 ∧ w_X8_fraction g v0 v4 v6 v3 (fun x8 h =>
  K x8 h) E0 h)) ∧ (¬ x6 ≤ v8 → (gR h v0 [8] 15 fun x9 =>
  aI h x9 0 (0 + v8) fun x10 =>
  (x10 = v1 → (isO h v0 8 ∧ w_X8_calm g v0 v8 (fun x12 h =>
  w_X8_power g x12 v2 (fun x13 h =>
  nmJ (v4 * x13) fun x14 =>
  w_X8_power g 100 v2 (fun x15 h =>
  nmJ (v6 * x15) fun x16 =>
  w_X8_allWhole_J100 g v0 v1 v2 v3 x14 x16 v8 K E L45 h) E0 h) E0 h) E0 h)) ∧ (¬ x10 = v1 → (w_X8_allWhole_J100 g v0 v1 v2 v3 v4 v6 v8 K E L45 h))))
def w_X8_allWhole (g : GT) (v0 : Option Nat) (v1 : Int32) (v2 : Int32) (v3 : Int32) (K : Int64 → AH → Prop) (E : Nat → AH → Prop) (h : AH) : Prop :=
  pV g h v0 [8] 0 (.int 0) fun h =>
  isO h v0 8 ∧ w_X8_isPerson g v0 v1 (fun x1 h =>
  (¬ x1 = 0 → (w_X8_in g v2 0 1 (fun x3 h =>
  (¬ x3 = 0 → (Lp3 (w_X8_allWhole_L45 g v0 v1 v2 v3 K E) 1 1 0 h)) ∧ (x3 = 0 → (isO h v0 8 ∧ w_X8_refused g v0 2 (fun x18 h =>
  K x18.toInt64 h) E0 h))) E0 h)) ∧ (x1 = 0 → (isO h v0 8 ∧ w_X8_refused g v0 1 (fun x19 h =>
  K x19.toInt64 h) E0 h))) E0 h
def w_X8_divided_J84 (g : GT)  (s0 : Int32) (s1 : Int32) (s2 : Option Nat) (K : Int32 → AH → Prop) (E : Nat → AH → Prop) (h : AH) : Prop :=
  isO h s2 8 ∧ w_X8_good g s2 (s1 + s0) (fun x16 h =>
  K x16 h) E0 h
def w_X8_divided (g : GT) (v0 : Option Nat) (v1 : Int32) (v2 : Int32) (v3 : Int32) (K : Int32 → AH → Prop) (E : Nat → AH → Prop) (h : AH) : Prop :=
  pV g h v0 [8] 0 (.int 0) fun h =>
  isO h v0 8 ∧ w_X8_isUmbrella g v0 v1 (fun x1 h =>
  (¬ x1 = 0 → (w_X8_in g v2 1 9 (fun x3 h =>
  (¬ x3 = 0 → (w_X8_in g v3 0 (v2 - 1) (fun x5 h =>
  (¬ x5 = 0 → (gR h v0 [8] 3 fun x7 =>
  gR h x7 [26] 10 fun x8 =>
  aI h x8 0 v1 fun x9 =>
  dzI v2 (gR h v0 [8] 3 fun x11 =>
  gR h x11 [26] 10 fun x12 =>
  aI h x12 0 v1 fun x13 =>
  dzI v2 (((x13 - x13 / v2 * v2) ≤ v3 → (w_X8_divided_J84 g  0 (x9 / v2) v0 K E h)) ∧ (¬ (x13 - x13 / v2 * v2) ≤ v3 → (w_X8_divided_J84 g  1 (x9 / v2) v0 K E h)))))) ∧ (x5 = 0 → (isO h v0 8 ∧ w_X8_refused g v0 1 (fun x17 h =>
  K x17 h) E0 h))) E0 h)) ∧ (x3 = 0 → (isO h v0 8 ∧ w_X8_refused g v0 2 (fun x18 h =>
  K x18 h) E0 h))) E0 h)) ∧ (x1 = 0 → (isO h v0 8 ∧ w_X8_refused g v0 1 (fun x19 h =>
  K x19 h) E0 h))) E0 h
def w_X8_lost (g : GT) (v0 : Option Nat) (v1 : Int32) (K : Int32 → AH → Prop) (E : Nat → AH → Prop) (h : AH) : Prop :=
  isO h v0 8 ∧ w_X8_refused g v0 v1 (fun x1 h =>
  K (-100) h) E0 h
def w_X8_gets_J21 (g : GT) (v1 : Int32) (s0 : Int32) (K : Int32 → AH → Prop) (E : Nat → AH → Prop) (h : AH) : Prop :=
  K (s0 - (2 * v1)) h
def w_X8_gets (g : GT) (v0 : Int32) (v1 : Int32) (v2 : Int32) (K : Int32 → AH → Prop) (E : Nat → AH → Prop) (h : AH) : Prop :=
  (v1 ≤ v2 → ((¬ v1 = v2 → (w_X8_gets_J21 g v1 0 K E h)) ∧ (v1 = v2 → (w_X8_gets_J21 g v1 (v0 / 2) K E h)))) ∧ (¬ v1 ≤ v2 → (w_X8_gets_J21 g v1 v0 K E h))
def w_X8_heirs_J48 (g : GT) (v0 : Option Nat) (K : Int32 → AH → Prop) (E : Nat → AH → Prop) (h : AH) : Prop :=
  isO h v0 8 ∧ w_X8_lost g v0 2 (fun x5 h =>
  K x5 h) E0 h
def w_X8_heirs_J75 (g : GT)  (s0 : Int32) (s1 : Option Nat) (K : Int32 → AH → Prop) (E : Nat → AH → Prop) (h : AH) : Prop :=
  isO h s1 8 ∧ w_X8_good g s1 s0 (fun x12 h =>
  K x12 h) E0 h
def w_X8_heirs (g : GT) (v0 : Option Nat) (v1 : Int32) (v2 : Int32) (v3 : Int32) (v4 : Int32) (K : Int32 → AH → Prop) (E : Nat → AH → Prop) (h : AH) : Prop :=
  pV g h v0 [8] 0 (.int 0) fun h =>
  gR h v0 [8] 3 fun x1 =>
  (¬ x1 = none → (w_X8_in g v1 0 99 (fun x3 h =>
  (x3 = 0 → (w_X8_heirs_J48 g v0 K E h)) ∧ (¬ x3 = 0 → (w_X8_in g v2 0 6 (fun x6 h =>
  (x6 = 0 → (w_X8_heirs_J48 g v0 K E h)) ∧ (¬ x6 = 0 → (w_X8_in g v3 0 6 (fun x8 h =>
  (¬ x8 = 0 → ((v4 = 0 → (w_X8_gets g v1 v2 v3 (fun x11 h =>
  w_X8_heirs_J75 g  x11 v0 K E h) E0 h)) ∧ (¬ v4 = 0 → (w_X8_gets g v1 v3 v2 (fun x13 h =>
  w_X8_heirs_J75 g  x13 v0 K E h) E0 h)))) ∧ (x8 = 0 → (w_X8_heirs_J48 g v0 K E h))) E0 h))) E0 h))) E0 h)) ∧ (x1 = none → (isO h v0 8 ∧ w_X8_lost g v0 1 (fun x14 h =>
  K x14 h) E0 h))
def w_X8_refusesRests (g : GT) (v0 : Option Nat) (v1 : Int32) (K : Int32 → AH → Prop) (E : Nat → AH → Prop) (h : AH) : Prop :=
  gR h v0 [8] 3 fun x1 =>
  (¬ x1 = none → (w_X8_in g v1 0 99 (fun x3 h =>
  (x3 = 0 → (K 2 h)) ∧ (¬ x3 = 0 → (K 0 h))) E0 h)) ∧ (x1 = none → (K 1 h))
def w_X8_isRest_L2 (g : GT) (v0 : Int32) (v1 : Int32) (v2 : Int32) (K : Int32 → AH → Prop) (E : Nat → AH → Prop) (L2 : Int32 → AH → Prop) (v3 : Int32) (h : AH) : Prop :=
  (7 ≤ v3 → (nz .boolean 1 (K 1 h))) ∧ (¬ 7 ≤ v3 → (w_X8_gets g v0 v3 v2 (fun x2 h =>
  w_X8_gets g v0 v1 v2 (fun x3 h =>
  (x3 < x2 → (nz .boolean 0 (K 0 h))) ∧ (¬ x3 < x2 → (w_X8_gets g v0 v3 v1 (fun x5 h =>
  w_X8_gets g v0 v2 v1 (fun x6 h =>
  (x5 ≤ x6 → (nmI (v3 + 1) fun x8 =>
  L2 x8 h)) ∧ (¬ x5 ≤ x6 → (nz .boolean 0 (K 0 h)))) E0 h) E0 h))) E0 h) E0 h))
def w_X8_isRest (g : GT) (v0 : Int32) (v1 : Int32) (v2 : Int32) (K : Int32 → AH → Prop) (E : Nat → AH → Prop) (h : AH) : Prop :=
  Lp1 (w_X8_isRest_L2 g v0 v1 v2 K E) 0 h
def w_X8_rests_J56 (g : GT) (v0 : Option Nat) (v1 : Int32) (v4 : Int32) (s0 : Int32) (s1 : Int32) (K : Int32 → AH → Prop) (E : Nat → AH → Prop) (L26 : Int32 → Int32 → AH → Prop) (h : AH) : Prop :=
  nmI (s1 + s0) fun x7 =>
  nmI (v4 + 1) fun x8 =>
  L26 x7 x8 h
def w_X8_rests_L26 (g : GT) (v0 : Option Nat) (v1 : Int32) (K : Int32 → AH → Prop) (E : Nat → AH → Prop) (L26 : Int32 → Int32 → AH → Prop) (v3 : Int32) (v4 : Int32) (h : AH) : Prop :=
  (49 ≤ v4 → (isO h v0 8 ∧ w_X8_good g v0 v3 (fun x4 h =>
  K x4 h) E0 h)) ∧ (¬ 49 ≤ v4 → (w_X8_isRest g v1 (v4 / 7) (v4 - v4 / 7 * 7) (fun x5 h =>
  (x5 = 0 → (w_X8_rests_J56 g v0 v1 v4 0 v3 K E L26 h)) ∧ (¬ x5 = 0 → (w_X8_rests_J56 g v0 v1 v4 1 v3 K E L26 h))) E0 h))
def w_X8_rests (g : GT) (v0 : Option Nat) (v1 : Int32) (K : Int32 → AH → Prop) (E : Nat → AH → Prop) (h : AH) : Prop :=
  pV g h v0 [8] 0 (.int 0) fun h =>
  isO h v0 8 ∧ w_X8_refusesRests g v0 v1 (fun x1 h =>
  (x1 ≤ 0 → (Lp2 (w_X8_rests_L26 g v0 v1 K E) 0 0 h)) ∧ (¬ x1 ≤ 0 → (isO h v0 8 ∧ w_X8_refused g v0 x1 (fun x9 h =>
  K x9 h) E0 h))) E0 h
def w_X8_rest_L23 (g : GT) (v0 : Option Nat) (v1 : Int32) (K : Int32 → AH → Prop) (E : Nat → AH → Prop) (L23 : Int32 → AH → Prop) (v3 : Int32) (h : AH) : Prop :=
  (49 ≤ v3 → (isO h v0 8 ∧ w_X8_good g v0 (-2) (fun x4 h =>
  K x4 h) E0 h)) ∧ (¬ 49 ≤ v3 → (w_X8_isRest g v1 (v3 / 7) (v3 - v3 / 7 * 7) (fun x5 h =>
  (x5 = 0 → (nmI (v3 + 1) fun x7 =>
  L23 x7 h)) ∧ (¬ x5 = 0 → (isO h v0 8 ∧ w_X8_good g v0 ((10 * (v3 / 7)) + (v3 - v3 / 7 * 7)) (fun x8 h =>
  K x8 h) E0 h))) E0 h))
def w_X8_rest (g : GT) (v0 : Option Nat) (v1 : Int32) (K : Int32 → AH → Prop) (E : Nat → AH → Prop) (h : AH) : Prop :=
  pV g h v0 [8] 0 (.int 0) fun h =>
  isO h v0 8 ∧ w_X8_refusesRests g v0 v1 (fun x1 h =>
  (x1 ≤ 0 → (Lp1 (w_X8_rest_L23 g v0 v1 K E) 0 h)) ∧ (¬ x1 ≤ 0 → (isO h v0 8 ∧ w_X8_refused g v0 x1 (fun x9 h =>
  K x9 h) E0 h))) E0 h
def w_X8_mosts_J76 (g : GT) (v0 : Option Nat) (v1 : Int32) (v2 : Int32) (v3 : Int32) (K : Int32 → AH → Prop) (E : Nat → AH → Prop) (L4 : Int32 → Int32 → AH → Prop) (h : AH) : Prop :=
  nmI (v3 + 1) fun x9 =>
  L4 v2 x9 h
def w_X8_mosts_J61 (g : GT) (v0 : Option Nat) (v1 : Int32) (v3 : Int32) (K : Int32 → AH → Prop) (E : Nat → AH → Prop) (L4 : Int32 → Int32 → AH → Prop) (h : AH) : Prop :=
  gR h v0 [8] 16 fun x7 =>
  isO h v0 8 ∧ w_X8_landsIn g v0 x7 v1 (fun x8 h =>
  pV g h v0 [8] 30 (.int x8) fun h =>
  w_X8_mosts_J76 g v0 v1 v3 v3 K E L4 h) E0 h
def w_X8_mosts_L4 (g : GT) (v0 : Option Nat) (v1 : Int32) (K : Int32 → AH → Prop) (E : Nat → AH → Prop) (L4 : Int32 → Int32 → AH → Prop) (v2 : Int32) (v3 : Int32) (h : AH) : Prop :=
  gR h v0 [8] 3 fun x1 =>
  gI h x1 [26] 4 fun x2 =>
  (x2 ≤ v3 → (K v2 h)) ∧ (¬ x2 ≤ v3 → (isO h v0 8 ∧ w_X8_tries g v0 (fun _ h =>
  gR h v0 [8] 16 fun x4 =>
  sI g h x4 0 (0 + v3) v1 fun h =>
  gR h v0 [8] 16 fun x5 =>
  isO h v0 8 ∧ w_X8_ends g v0 x5 1 (fun _ h =>
  (v2 = (-1) → (w_X8_mosts_J61 g v0 v1 v3 K E L4 h)) ∧ (¬ v2 = (-1) → (gR h v0 [8] 16 fun x10 =>
  isO h v0 8 ∧ w_X8_landsIn g v0 x10 v1 (fun x11 h =>
  gI h v0 [8] 30 fun x12 =>
  (x12 < x11 → (w_X8_mosts_J61 g v0 v1 v3 K E L4 h)) ∧ (¬ x12 < x11 → (w_X8_mosts_J76 g v0 v1 v2 v3 K E L4 h))) E0 h))) E0 h) E0 h))
def w_X8_mosts (g : GT) (v0 : Option Nat) (v1 : Int32) (K : Int32 → AH → Prop) (E : Nat → AH → Prop) (h : AH) : Prop :=
  Lp2 (w_X8_mosts_L4 g v0 v1 K E) (-1) 0 h
def w_X8_most (g : GT) (v0 : Option Nat) (v1 : Int32) (K : Int32 → AH → Prop) (E : Nat → AH → Prop) (h : AH) : Prop :=
  pV g h v0 [8] 0 (.int 0) fun h =>
  isO h v0 8 ∧ w_X8_isPerson g v0 v1 (fun x1 h =>
  (x1 = 0 → (isO h v0 8 ∧ w_X8_refused g v0 1 (fun x3 h =>
  K x3 h) E0 h)) ∧ (¬ x1 = 0 → (isO h v0 8 ∧ w_X8_mosts g v0 v1 (fun x4 h =>
  isO h v0 8 ∧ w_X8_good g v0 x4 (fun x5 h =>
  K x5 h) E0 h) E0 h))) E0 h
def w_X8_mostLands (g : GT) (v0 : Option Nat) (v1 : Int32) (K : Int32 → AH → Prop) (E : Nat → AH → Prop) (h : AH) : Prop :=
  pV g h v0 [8] 0 (.int 0) fun h =>
  isO h v0 8 ∧ w_X8_isPerson g v0 v1 (fun x1 h =>
  (¬ x1 = 0 → (isO h v0 8 ∧ w_X8_mosts g v0 v1 (fun x3 h =>
  gI h v0 [8] 30 fun x4 =>
  isO h v0 8 ∧ w_X8_good g v0 x4 (fun x5 h =>
  K x5 h) E0 h) E0 h)) ∧ (x1 = 0 → (isO h v0 8 ∧ w_X8_refused g v0 1 (fun x6 h =>
  K x6 h) E0 h))) E0 h
def w_X8_draw (g : GT) (v0 : Option Nat) (v1 : Int32) (K : Int32 → AH → Prop) (E : Nat → AH → Prop) (h : AH) : Prop :=
  gI h v0 [8] 31 fun x1 =>
  pV g h v0 [8] 31 (.int ((((75 * x1.toInt64) + 74) - ((75 * x1.toInt64) + 74) / 65537 * 65537).toInt32)) fun h =>
  gI h v0 [8] 31 fun x2 =>
  dzI v1 (K (x2 - x2 / v1 * v1) h)
def w_X8_centuries_J106 (g : GT) (v0 : Option Nat) (v3 : Int32) (v4 : Int32) (s0 : Int32) (s1 : Option Nat) (s2 : Option Nat) (K : Int32 → AH → Prop) (E : Nat → AH → Prop) (L41 : Int32 → AH → Prop) (h : AH) : Prop :=
  isO h s2 8 ∧ w_X8_ends g s2 s1 s0 (fun _ h =>
  nmI (v4 + 1) fun x19 =>
  L41 x19 h) E0 h
def w_X8_centuries_L41 (g : GT) (v0 : Option Nat) (v3 : Int32) (K : Int32 → AH → Prop) (E : Nat → AH → Prop) (L41 : Int32 → AH → Prop) (v4 : Int32) (h : AH) : Prop :=
  (v3 ≤ v4 → (K 0 h)) ∧ (¬ v3 ≤ v4 → (gR h v0 [8] 3 fun x7 =>
  gI h x7 [26] 4 fun x8 =>
  isO h v0 8 ∧ w_X8_draw g v0 x8 (fun x9 h =>
  gR h v0 [8] 16 fun x10 =>
  gR h v0 [8] 3 fun x11 =>
  gI h x11 [26] 3 fun x12 =>
  isO h v0 8 ∧ w_X8_draw g v0 x12 (fun x13 h =>
  sI g h x10 0 (0 + x9) x13 fun h =>
  gR h v0 [8] 16 fun x14 =>
  isO h v0 8 ∧ w_X8_draw g v0 100 (fun x15 h =>
  gR h v0 [8] 3 fun x16 =>
  gI h x16 [26] 2 fun x17 =>
  (x17 ≤ x15 → (w_X8_centuries_J106 g v0 v3 v4 0 x14 v0 K E L41 h)) ∧ (¬ x17 ≤ x15 → (w_X8_centuries_J106 g v0 v3 v4 1 x14 v0 K E L41 h))) E0 h) E0 h) E0 h))
def w_X8_centuries (g : GT) (v0 : Option Nat) (v1 : Int32) (v2 : Int32) (v3 : Int32) (K : Int32 → AH → Prop) (E : Nat → AH → Prop) (h : AH) : Prop :=
  (¬ v1 = 0 → (w_X8_in g v2 0 65536 (fun x2 h =>
  (x2 = 0 → (K 2 h)) ∧ (¬ x2 = 0 → (w_X8_in g v3 0 60 (fun x4 h =>
  (¬ x4 = 0 → (pV g h v0 [8] 31 (.int v2) fun h =>
  isO h v0 8 ∧ w_X8_tries g v0 (fun _ h =>
  Lp1 (w_X8_centuries_L41 g v0 v3 K E) 0 h) E0 h)) ∧ (x4 = 0 → (K 2 h))) E0 h))) E0 h)) ∧ (v1 = 0 → (K 1 h))
def w_X8_century (g : GT) (v0 : Option Nat) (v1 : Int32) (v2 : Int32) (v3 : Int32) (K : Int32 → AH → Prop) (E : Nat → AH → Prop) (h : AH) : Prop :=
  pV g h v0 [8] 0 (.int 0) fun h =>
  isO h v0 8 ∧ w_X8_isPerson g v0 v1 (fun x1 h =>
  isO h v0 8 ∧ w_X8_centuries g v0 x1 v2 v3 (fun x2 h =>
  (x2 ≤ 0 → (gR h v0 [8] 16 fun x4 =>
  isO h v0 8 ∧ w_X8_landsIn g v0 x4 v1 (fun x5 h =>
  isO h v0 8 ∧ w_X8_good g v0 x5 (fun x6 h =>
  K x6 h) E0 h) E0 h)) ∧ (¬ x2 ≤ 0 → (isO h v0 8 ∧ w_X8_refused g v0 x2 (fun x7 h =>
  K x7 h) E0 h))) E0 h) E0 h
def w_X8_untitled_J73 (g : GT) (v0 : Option Nat) (v5 : Int32) (s0 : Int32) (s1 : Int32) (K : Int32 → AH → Prop) (E : Nat → AH → Prop) (L40 : Int32 → Int32 → AH → Prop) (h : AH) : Prop :=
  nmI (s1 + s0) fun x12 =>
  nmI (v5 + 1) fun x13 =>
  L40 x12 x13 h
def w_X8_untitled_L40 (g : GT) (v0 : Option Nat) (K : Int32 → AH → Prop) (E : Nat → AH → Prop) (L40 : Int32 → Int32 → AH → Prop) (v4 : Int32) (v5 : Int32) (h : AH) : Prop :=
  gR h v0 [8] 3 fun x5 =>
  gI h x5 [26] 4 fun x6 =>
  (x6 ≤ v5 → (isO h v0 8 ∧ w_X8_good g v0 v4 (fun x8 h =>
  K x8 h) E0 h)) ∧ (¬ x6 ≤ v5 → (gR h v0 [8] 16 fun x9 =>
  aI h x9 0 (5 + v5) fun x10 =>
  (¬ x10 = (-2) → (w_X8_untitled_J73 g v0 v5 0 v4 K E L40 h)) ∧ (x10 = (-2) → (w_X8_untitled_J73 g v0 v5 1 v4 K E L40 h))))
def w_X8_untitled_J18 (g : GT) (v0 : Option Nat) (v1 : Int32) (v2 : Int32) (s0 : Int32) (s1 : Option Nat) (K : Int32 → AH → Prop) (E : Nat → AH → Prop) (h : AH) : Prop :=
  isO h s1 8 ∧ w_X8_centuries g s1 s0 v1 v2 (fun x3 h =>
  (x3 ≤ 0 → (Lp2 (w_X8_untitled_L40 g v0 K E) 0 0 h)) ∧ (¬ x3 ≤ 0 → (isO h v0 8 ∧ w_X8_refused g v0 x3 (fun x14 h =>
  K x14 h) E0 h))) E0 h
def w_X8_untitled (g : GT) (v0 : Option Nat) (v1 : Int32) (v2 : Int32) (K : Int32 → AH → Prop) (E : Nat → AH → Prop) (h : AH) : Prop :=
  pV g h v0 [8] 0 (.int 0) fun h =>
  gR h v0 [8] 3 fun x1 =>
  (x1 = none → (w_X8_untitled_J18 g v0 v1 v2 0 v0 K E h)) ∧ (¬ x1 = none → (w_X8_untitled_J18 g v0 v1 v2 1 v0 K E h))
def w_X8_denied (g : GT) (v0 : Option Nat) (v1 : Int32) (K : Int32 → AH → Prop) (E : Nat → AH → Prop) (h : AH) : Prop :=
  isO h v0 8 ∧ w_X8_refused g v0 v1 (fun x1 h =>
  nz .boolean 0 (K 0 h)) E0 h
def w_X8_remembers_L51 (g : GT) (v0 : Option Nat) (K : Unit → AH → Prop) (E : Nat → AH → Prop) (L51 : Int32 → AH → Prop) (v1 : Int32) (h : AH) : Prop :=
  (11 ≤ v1 → (gI h v0 [8] 19 fun x4 =>
  pV g h v0 [8] 19 (.int (x4 + 1)) fun h =>
  K () h)) ∧ (¬ 11 ≤ v1 → (gR h v0 [8] 17 fun x5 =>
  gI h v0 [8] 19 fun x6 =>
  gR h v0 [8] 15 fun x7 =>
  aI h x7 0 v1 fun x8 =>
  sI g h x5 0 ((11 * x6) + v1) x8 fun h =>
  nmI (v1 + 1) fun x9 =>
  L51 x9 h))
def w_X8_remembers_J49 (g : GT) (v0 : Option Nat) (K : Unit → AH → Prop) (E : Nat → AH → Prop) (h : AH) : Prop :=
  Lp1 (w_X8_remembers_L51 g v0 K E) 0 h
def w_X8_remembers_L11 (g : GT) (v0 : Option Nat) (K : Unit → AH → Prop) (E : Nat → AH → Prop) (L11 : Int32 → AH → Prop) (v1 : Int32) (h : AH) : Prop :=
  (165 ≤ v1 → (gI h v0 [8] 19 fun x11 =>
  pV g h v0 [8] 19 (.int (x11 - 1)) fun h =>
  w_X8_remembers_J49 g v0 K E h)) ∧ (¬ 165 ≤ v1 → (gR h v0 [8] 17 fun x12 =>
  gR h v0 [8] 17 fun x13 =>
  aI h x13 0 (v1 + 11) fun x14 =>
  sI g h x12 0 v1 x14 fun h =>
  nmI (v1 + 1) fun x15 =>
  L11 x15 h))
def w_X8_remembers (g : GT) (v0 : Option Nat) (K : Unit → AH → Prop) (E : Nat → AH → Prop) (h : AH) : Prop :=
  gI h v0 [8] 19 fun x1 =>
  (¬ x1 = 16 → (w_X8_remembers_J49 g v0 K E h)) ∧ (x1 = 16 → (Lp1 (w_X8_remembers_L11 g v0 K E) 0 h))
def w_X8_granted (g : GT) (v0 : Option Nat) (K : Int32 → AH → Prop) (E : Nat → AH → Prop) (h : AH) : Prop :=
  isO h v0 8 ∧ w_X8_good g v0 0 (fun x1 h =>
  nz .boolean 1 (K 1 h)) E0 h
def w_X8_lend_J21 (g : GT) (v0 : Option Nat) (K : Int32 → AH → Prop) (E : Nat → AH → Prop) (h : AH) : Prop :=
  isO h v0 8 ∧ w_X8_denied g v0 1 (fun x3 h =>
  nz .boolean x3 (K x3 h)) E0 h
def w_X8_lend (g : GT) (v0 : Option Nat) (v1 : Int32) (v2 : Int32) (K : Int32 → AH → Prop) (E : Nat → AH → Prop) (h : AH) : Prop :=
  pV g h v0 [8] 0 (.int 0) fun h =>
  isO h v0 8 ∧ w_X8_isUmbrella g v0 v1 (fun x1 h =>
  (x1 = 0 → (w_X8_lend_J21 g v0 K E h)) ∧ (¬ x1 = 0 → (isO h v0 8 ∧ w_X8_isPerson g v0 v2 (fun x4 h =>
  (¬ x4 = 0 → (gR h v0 [8] 15 fun x6 =>
  aI h x6 0 (0 + v1) fun x7 =>
  (¬ x7 = v2 → (isO h v0 8 ∧ w_X8_remembers g v0 (fun _ h =>
  gR h v0 [8] 15 fun x9 =>
  sI g h x9 0 (0 + v1) v2 fun h =>
  isO h v0 8 ∧ w_X8_granted g v0 (fun x10 h =>
  nz .boolean x10 (K x10 h)) E0 h) E0 h)) ∧ (x7 = v2 → (isO h v0 8 ∧ w_X8_denied g v0 5 (fun x11 h =>
  nz .boolean x11 (K x11 h)) E0 h)))) ∧ (x4 = 0 → (w_X8_lend_J21 g v0 K E h))) E0 h))) E0 h
def w_X8_leave (g : GT) (v0 : Option Nat) (v1 : Int32) (K : Int32 → AH → Prop) (E : Nat → AH → Prop) (h : AH) : Prop :=
  pV g h v0 [8] 0 (.int 0) fun h =>
  isO h v0 8 ∧ w_X8_isUmbrella g v0 v1 (fun x1 h =>
  (¬ x1 = 0 → (gR h v0 [8] 15 fun x3 =>
  aI h x3 0 (0 + v1) fun x4 =>
  (¬ x4 = (-2) → (isO h v0 8 ∧ w_X8_remembers g v0 (fun _ h =>
  gR h v0 [8] 15 fun x6 =>
  sI g h x6 0 (0 + v1) (-2) fun h =>
  isO h v0 8 ∧ w_X8_granted g v0 (fun x7 h =>
  nz .boolean x7 (K x7 h)) E0 h) E0 h)) ∧ (x4 = (-2) → (isO h v0 8 ∧ w_X8_denied g v0 5 (fun x8 h =>
  nz .boolean x8 (K x8 h)) E0 h)))) ∧ (x1 = 0 → (isO h v0 8 ∧ w_X8_denied g v0 1 (fun x9 h =>
  nz .boolean x9 (K x9 h)) E0 h))) E0 h
def w_X8_exchange_J26 (g : GT) (v0 : Option Nat) (K : Int32 → AH → Prop) (E : Nat → AH → Prop) (h : AH) : Prop :=
  isO h v0 8 ∧ w_X8_denied g v0 1 (fun x3 h =>
  nz .boolean x3 (K x3 h)) E0 h
def w_X8_exchange (g : GT) (v0 : Option Nat) (v1 : Int32) (v2 : Int32) (K : Int32 → AH → Prop) (E : Nat → AH → Prop) (h : AH) : Prop :=
  pV g h v0 [8] 0 (.int 0) fun h =>
  isO h v0 8 ∧ w_X8_isUmbrella g v0 v1 (fun x1 h =>
  (x1 = 0 → (w_X8_exchange_J26 g v0 K E h)) ∧ (¬ x1 = 0 → (isO h v0 8 ∧ w_X8_isUmbrella g v0 v2 (fun x4 h =>
  (x4 = 0 → (w_X8_exchange_J26 g v0 K E h)) ∧ (¬ x4 = 0 → ((¬ v1 = v2 → (gR h v0 [8] 15 fun x7 =>
  isO h v0 8 ∧ w_X8_canExchange g v0 x7 v1 v2 (fun x8 h =>
  (¬ x8 = 0 → (isO h v0 8 ∧ w_X8_remembers g v0 (fun _ h =>
  gR h v0 [8] 15 fun x10 =>
  w_X8_changes g x10 v1 v2 (fun _ h =>
  isO h v0 8 ∧ w_X8_granted g v0 (fun x11 h =>
  nz .boolean x11 (K x11 h)) E0 h) E0 h) E0 h)) ∧ (x8 = 0 → (isO h v0 8 ∧ w_X8_denied g v0 5 (fun x12 h =>
  nz .boolean x12 (K x12 h)) E0 h))) E0 h)) ∧ (v1 = v2 → (w_X8_exchange_J26 g v0 K E h))))) E0 h))) E0 h
def w_X8_day_J75 (g : GT) (v0 : Option Nat) (v3 : Int32) (s0 : Int32) (s1 : Int32) (K : Int32 → AH → Prop) (E : Nat → AH → Prop) (L39 : Int32 → Int32 → AH → Prop) (h : AH) : Prop :=
  nmI (s1 + s0) fun x13 =>
  nmI (v3 + 1) fun x14 =>
  L39 x13 x14 h
def w_X8_day_L39 (g : GT) (v0 : Option Nat) (K : Int32 → AH → Prop) (E : Nat → AH → Prop) (L39 : Int32 → Int32 → AH → Prop) (v2 : Int32) (v3 : Int32) (h : AH) : Prop :=
  gR h v0 [8] 3 fun x4 =>
  gI h x4 [26] 4 fun x5 =>
  (x5 ≤ v3 → (isO h v0 8 ∧ w_X8_good g v0 v2 (fun x7 h =>
  K x7 h) E0 h)) ∧ (¬ x5 ≤ v3 → (gR h v0 [8] 15 fun x8 =>
  aI h x8 0 (5 + v3) fun x9 =>
  gR h v0 [8] 16 fun x10 =>
  aI h x10 0 (5 + v3) fun x11 =>
  (¬ x9 = x11 → (w_X8_day_J75 g v0 v3 1 v2 K E L39 h)) ∧ (x9 = x11 → (w_X8_day_J75 g v0 v3 0 v2 K E L39 h))))
def w_X8_day (g : GT) (v0 : Option Nat) (v1 : Int32) (K : Int32 → AH → Prop) (E : Nat → AH → Prop) (h : AH) : Prop :=
  pV g h v0 [8] 0 (.int 0) fun h =>
  gR h v0 [8] 3 fun x1 =>
  (¬ x1 = none → (isO h v0 8 ∧ w_X8_remembers g v0 (fun _ h =>
  isO h v0 8 ∧ w_X8_tries g v0 (fun _ h =>
  gR h v0 [8] 15 fun x3 =>
  isO h v0 8 ∧ w_X8_ends g v0 x3 v1 (fun _ h =>
  Lp2 (w_X8_day_L39 g v0 K E) 0 0 h) E0 h) E0 h) E0 h)) ∧ (x1 = none → (isO h v0 8 ∧ w_X8_refused g v0 1 (fun x15 h =>
  K x15 h) E0 h))
def w_X8_undo_J19 (g : GT) (v0 : Option Nat) (K : Int32 → AH → Prop) (E : Nat → AH → Prop) (h : AH) : Prop :=
  isO h v0 8 ∧ w_X8_denied g v0 6 (fun x3 h =>
  nz .boolean x3 (K x3 h)) E0 h
def w_X8_undo_L38 (g : GT) (v0 : Option Nat) (K : Int32 → AH → Prop) (E : Nat → AH → Prop) (L38 : Int32 → AH → Prop) (v1 : Int32) (h : AH) : Prop :=
  (11 ≤ v1 → (isO h v0 8 ∧ w_X8_granted g v0 (fun x8 h =>
  nz .boolean x8 (K x8 h)) E0 h)) ∧ (¬ 11 ≤ v1 → (gR h v0 [8] 15 fun x9 =>
  gR h v0 [8] 17 fun x10 =>
  gI h v0 [8] 19 fun x11 =>
  aI h x10 0 ((11 * x11) + v1) fun x12 =>
  sI g h x9 0 v1 x12 fun h =>
  nmI (v1 + 1) fun x13 =>
  L38 x13 h))
def w_X8_undo (g : GT) (v0 : Option Nat) (K : Int32 → AH → Prop) (E : Nat → AH → Prop) (h : AH) : Prop :=
  pV g h v0 [8] 0 (.int 0) fun h =>
  gR h v0 [8] 3 fun x1 =>
  (x1 = none → (w_X8_undo_J19 g v0 K E h)) ∧ (¬ x1 = none → (gI h v0 [8] 19 fun x4 =>
  (¬ x4 = 0 → (gI h v0 [8] 19 fun x6 =>
  pV g h v0 [8] 19 (.int (x6 - 1)) fun h =>
  Lp1 (w_X8_undo_L38 g v0 K E) 0 h)) ∧ (x4 = 0 → (w_X8_undo_J19 g v0 K E h))))
def w_X8_mark_L34 (g : GT) (v0 : Option Nat) (K : Int32 → AH → Prop) (E : Nat → AH → Prop) (L34 : Int32 → AH → Prop) (v1 : Int32) (h : AH) : Prop :=
  (11 ≤ v1 → (gI h v0 [8] 20 fun x6 =>
  pV g h v0 [8] 20 (.int (x6 + 1)) fun h =>
  gI h v0 [8] 20 fun x7 =>
  isO h v0 8 ∧ w_X8_good g v0 (x7 - 1) (fun x8 h =>
  K x8 h) E0 h)) ∧ (¬ 11 ≤ v1 → (gR h v0 [8] 18 fun x9 =>
  gI h v0 [8] 20 fun x10 =>
  gR h v0 [8] 15 fun x11 =>
  aI h x11 0 v1 fun x12 =>
  sI g h x9 0 ((11 * x10) + v1) x12 fun h =>
  nmI (v1 + 1) fun x13 =>
  L34 x13 h))
def w_X8_mark (g : GT) (v0 : Option Nat) (K : Int32 → AH → Prop) (E : Nat → AH → Prop) (h : AH) : Prop :=
  pV g h v0 [8] 0 (.int 0) fun h =>
  gR h v0 [8] 3 fun x1 =>
  (¬ x1 = none → (gI h v0 [8] 20 fun x3 =>
  (¬ x3 = 3 → (Lp1 (w_X8_mark_L34 g v0 K E) 0 h)) ∧ (x3 = 3 → (isO h v0 8 ∧ w_X8_refused g v0 3 (fun x14 h =>
  K x14 h) E0 h)))) ∧ (x1 = none → (isO h v0 8 ∧ w_X8_refused g v0 1 (fun x15 h =>
  K x15 h) E0 h))
def w_X8_back_J24 (g : GT) (v0 : Option Nat) (K : Int32 → AH → Prop) (E : Nat → AH → Prop) (h : AH) : Prop :=
  isO h v0 8 ∧ w_X8_denied g v0 1 (fun x3 h =>
  nz .boolean x3 (K x3 h)) E0 h
def w_X8_back_L32 (g : GT) (v0 : Option Nat) (v1 : Int32) (K : Int32 → AH → Prop) (E : Nat → AH → Prop) (L32 : Int32 → AH → Prop) (v2 : Int32) (h : AH) : Prop :=
  (11 ≤ v2 → (pV g h v0 [8] 19 (.int 0) fun h =>
  isO h v0 8 ∧ w_X8_granted g v0 (fun x8 h =>
  nz .boolean x8 (K x8 h)) E0 h)) ∧ (¬ 11 ≤ v2 → (gR h v0 [8] 15 fun x9 =>
  gR h v0 [8] 18 fun x10 =>
  aI h x10 0 ((11 * v1) + v2) fun x11 =>
  sI g h x9 0 v2 x11 fun h =>
  nmI (v2 + 1) fun x12 =>
  L32 x12 h))
def w_X8_back (g : GT) (v0 : Option Nat) (v1 : Int32) (K : Int32 → AH → Prop) (E : Nat → AH → Prop) (h : AH) : Prop :=
  pV g h v0 [8] 0 (.int 0) fun h =>
  gR h v0 [8] 3 fun x1 =>
  (x1 = none → (w_X8_back_J24 g v0 K E h)) ∧ (¬ x1 = none → ((v1 < 0 → (w_X8_back_J24 g v0 K E h)) ∧ (¬ v1 < 0 → (gI h v0 [8] 20 fun x5 =>
  (v1 < x5 → (Lp1 (w_X8_back_L32 g v0 v1 K E) 0 h)) ∧ (¬ v1 < x5 → (w_X8_back_J24 g v0 K E h))))))
def w_X8_led_J59 (g : GT) (v0 : Option Nat) (K : Int32 → AH → Prop) (E : Nat → AH → Prop) (h : AH) : Prop :=
  pV g h v0 [8] 0 (.int 1) fun h =>
  K 0 h
def w_X8_led_J53 (g : GT) (v0 : Option Nat) (v1 : Int32) (v2 : Int32) (v3 : Int32) (K : Int32 → AH → Prop) (E : Nat → AH → Prop) (L9 : Int32 → Int32 → AH → Prop) (h : AH) : Prop :=
  nmI (v3 + 1) fun x11 =>
  L9 v2 x11 h
def w_X8_led_L9 (g : GT) (v0 : Option Nat) (v1 : Int32) (K : Int32 → AH → Prop) (E : Nat → AH → Prop) (L9 : Int32 → Int32 → AH → Prop) (v2 : Int32) (v3 : Int32) (h : AH) : Prop :=
  gR h v0 [8] 3 fun x1 =>
  (x1 = none → (w_X8_led_J59 g v0 K E h)) ∧ (¬ x1 = none → (gR h v0 [8] 3 fun x3 =>
  gI h x3 [26] 4 fun x4 =>
  (x4 ≤ v3 → (w_X8_led_J59 g v0 K E h)) ∧ (¬ x4 ≤ v3 → (gR h v0 [8] 15 fun x6 =>
  aI h x6 0 (0 + v3) fun x7 =>
  (x7 = (-2) → ((¬ v2 = v1 → (nmI (v2 + 1) fun x10 =>
  w_X8_led_J53 g v0 v1 x10 v3 K E L9 h)) ∧ (v2 = v1 → (K v3 h)))) ∧ (¬ x7 = (-2) → (w_X8_led_J53 g v0 v1 v2 v3 K E L9 h))))))
def w_X8_led (g : GT) (v0 : Option Nat) (v1 : Int32) (K : Int32 → AH → Prop) (E : Nat → AH → Prop) (h : AH) : Prop :=
  pV g h v0 [8] 0 (.int 0) fun h =>
  Lp2 (w_X8_led_L9 g v0 v1 K E) 0 0 h
def w_X8_size (g : GT) (v0 : Option Nat) (v1 : Int32) (K : Int32 → AH → Prop) (E : Nat → AH → Prop) (h : AH) : Prop :=
  pV g h v0 [8] 0 (.int 0) fun h =>
  (¬ v1 = 10 → (w_X8_in g v1 0 9 (fun x2 h =>
  (¬ x2 = 0 → (gR h v0 [8] 3 fun x4 =>
  (¬ x4 = none → (swT v1 [(0, gR h v0 [8] 3 fun x7 =>
  gI h x7 [26] 0 fun x8 =>
  K x8 h),
  (1, gR h v0 [8] 3 fun x9 =>
  gI h x9 [26] 1 fun x10 =>
  K x10 h),
  (2, gR h v0 [8] 3 fun x11 =>
  gI h x11 [26] 2 fun x12 =>
  K x12 h),
  (3, gR h v0 [8] 3 fun x13 =>
  gI h x13 [26] 3 fun x14 =>
  K x14 h),
  (4, gR h v0 [8] 3 fun x15 =>
  gI h x15 [26] 4 fun x16 =>
  K x16 h),
  (5, gR h v0 [8] 3 fun x17 =>
  gI h x17 [26] 5 fun x18 =>
  K x18 h),
  (6, gR h v0 [8] 3 fun x19 =>
  gI h x19 [26] 6 fun x20 =>
  K x20 h),
  (7, gR h v0 [8] 15 fun x21 =>
  aI h x21 0 10 fun x22 =>
  K x22 h),
  (8, gI h v0 [8] 19 fun x23 =>
  K x23 h)] (gI h v0 [8] 20 fun x24 =>
  K x24 h))) ∧ (x4 = none → (K 0 h)))) ∧ (x2 = 0 → (K (-1) h))) E0 h)) ∧ (v1 = 10 → (gI h v0 [8] 6 fun x25 =>
  K x25 h))
def w_X8_trouble (g : GT) (v0 : Option Nat) (K : Int32 → AH → Prop) (E : Nat → AH → Prop) (h : AH) : Prop :=
  pV g h v0 [8] 0 (.int 0) fun h =>
  gI h v0 [8] 1 fun x1 =>
  K x1 h
