abbrev Fo : Type := Std.DTreeMap.Internal.Impl (Int32 × Int32 × Int32) (fun _ => Unit)
def fo_size : Fo → Nat
  | .leaf => 0
  | .inner _ _ _ k r => 1 + fo_size k + fo_size r
theorem fo_t (f : Fo) : 0 ≤ fo_size f := by
  induction f with
  | leaf => exact Nat.zero_le _
  | inner n k v l r ih1 ih2 => exact Nat.zero_le _
/-- what a step leaves alone -/
theorem lo_up (h : Nat → Option Tce) (a : Nat) (e : Option Tce) : va_up h a e a = e := by simp [va_up]
theorem lo_ne (h : Nat → Option Tce) {a b : Nat} (e : Option Tce) (n : b ≠ a) : va_up h a e b = h b := by simp [va_up, n]
