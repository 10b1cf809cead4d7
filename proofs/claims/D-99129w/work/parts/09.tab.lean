set_option maxRecDepth 100000
def TY16 : u_T := fun k => match k with
  | 0 => ("UmbrellaHeir$Named", "name", "Ljava/lang/String;", true)
  | 1 => ("UmbrellaHeir$Named", "number", "I", true)
  | 2 => ("UmbrellaHeir$Umbrella", "lands", "I", false)
  | 3 => ("UmbrellaHeir$Umbrella", "ribs", "I", false)
  | _ => ("UmbrellaHeir$Umbrella", "holder", "I", false)
def tyY16 : Nat → FieldType := fun k => match k with
  | 0 => .object "java/lang/String"
  | 1 => .int
  | 2 => .int
  | 3 => .int
  | _ => .int
abbrev wsY160 : List Cond := u_ws RX16 TY16 5
theorem nmY16 : ∀ a, a < 5 → ∀ b, b < 5 → a ≠ b → (TY16 a).2.1 ≠ (TY16 b).2.1 := by decide +kernel
theorem tyY16_ok : ∀ k, k < 5 → parseFieldDescriptor (TY16 k).2.2.1 = some (tyY16 k) := by decide +kernel
theorem in_Y16 : ∀ w ∈ wsY160, w ∈ lw_all := lw_in wsY160 [849, 850, 843, 845, 847] (by decide +kernel) (by decide +kernel)
def TY17 : u_T := fun k => match k with
  | 0 => ("UmbrellaHeir$Named", "name", "Ljava/lang/String;", true)
  | 1 => ("UmbrellaHeir$Named", "number", "I", true)
  | 2 => ("UmbrellaHeir$Umbrella", "lands", "I", false)
  | 3 => ("UmbrellaHeir$Umbrella", "ribs", "I", false)
  | _ => ("UmbrellaHeir$Umbrella", "holder", "I", false)
def tyY17 : Nat → FieldType := fun k => match k with
  | 0 => .object "java/lang/String"
  | 1 => .int
  | 2 => .int
  | 3 => .int
  | _ => .int
abbrev wsY170 : List Cond := u_ws RX17 TY17 5
theorem nmY17 : ∀ a, a < 5 → ∀ b, b < 5 → a ≠ b → (TY17 a).2.1 ≠ (TY17 b).2.1 := by decide +kernel
theorem tyY17_ok : ∀ k, k < 5 → parseFieldDescriptor (TY17 k).2.2.1 = some (tyY17 k) := by decide +kernel
theorem in_Y17 : ∀ w ∈ wsY170, w ∈ lw_all := lw_in wsY170 [862, 863, 859, 860, 861] (by decide +kernel) (by decide +kernel)
def TY18 : u_T := fun k => match k with
  | 0 => ("UmbrellaHeir$Named", "name", "Ljava/lang/String;", true)
  | 1 => ("UmbrellaHeir$Named", "number", "I", true)
  | 2 => ("UmbrellaHeir$Umbrella", "lands", "I", false)
  | 3 => ("UmbrellaHeir$Umbrella", "ribs", "I", false)
  | _ => ("UmbrellaHeir$Umbrella", "holder", "I", false)
def tyY18 : Nat → FieldType := fun k => match k with
  | 0 => .object "java/lang/String"
  | 1 => .int
  | 2 => .int
  | 3 => .int
  | _ => .int
abbrev wsY180 : List Cond := u_ws RX18 TY18 5
theorem nmY18 : ∀ a, a < 5 → ∀ b, b < 5 → a ≠ b → (TY18 a).2.1 ≠ (TY18 b).2.1 := by decide +kernel
theorem tyY18_ok : ∀ k, k < 5 → parseFieldDescriptor (TY18 k).2.2.1 = some (tyY18 k) := by decide +kernel
theorem in_Y18 : ∀ w ∈ wsY180, w ∈ lw_all := lw_in wsY180 [875, 876, 872, 873, 874] (by decide +kernel) (by decide +kernel)
def TY19 : u_T := fun k => match k with
  | 0 => ("UmbrellaHeir$Named", "name", "Ljava/lang/String;", true)
  | 1 => ("UmbrellaHeir$Named", "number", "I", true)
  | 2 => ("UmbrellaHeir$Umbrella", "lands", "I", false)
  | 3 => ("UmbrellaHeir$Umbrella", "ribs", "I", false)
  | _ => ("UmbrellaHeir$Umbrella", "holder", "I", false)
def tyY19 : Nat → FieldType := fun k => match k with
  | 0 => .object "java/lang/String"
  | 1 => .int
  | 2 => .int
  | 3 => .int
  | _ => .int
abbrev wsY190 : List Cond := u_ws RX19 TY19 5
theorem nmY19 : ∀ a, a < 5 → ∀ b, b < 5 → a ≠ b → (TY19 a).2.1 ≠ (TY19 b).2.1 := by decide +kernel
theorem tyY19_ok : ∀ k, k < 5 → parseFieldDescriptor (TY19 k).2.2.1 = some (tyY19 k) := by decide +kernel
theorem in_Y19 : ∀ w ∈ wsY190, w ∈ lw_all := lw_in wsY190 [888, 889, 885, 886, 887] (by decide +kernel) (by decide +kernel)
