/-! NUMBERS: a whole number as the machine has it -/
def i3 (n : Int) : Int32 := Int32.ofInt n
abbrev rg (n : Int) : Prop := -2147483648 ≤ n ∧ n < 2147483648
theorem i3_toInt {n : Int} (h : rg n) : (i3 n).toInt = n := by
  unfold i3
  rw [Int32.toInt_ofInt]
  obtain ⟨h1, h2⟩ := h
  rw [Int.bmod_def]
  have h3 : (Int32.size : Int) = 4294967296 := rfl
  rw [h3]
  omega
theorem i3_of (w : Int32) : i3 w.toInt = w := by
  unfold i3
  exact Int32.ofInt_toInt w
theorem i3_rg (w : Int32) : rg w.toInt := ⟨Int32.le_toInt w, Int32.toInt_lt w⟩
theorem i3_add (a b : Int) : i3 a + i3 b = i3 (a + b) := by
  unfold i3
  rw [Int32.ofInt_add]
theorem i3_sub (a b : Int) : i3 a - i3 b = i3 (a - b) := by
  unfold i3
  rw [Int32.ofInt_sub]
theorem i3_mul (a b : Int) : i3 a * i3 b = i3 (a * b) := by
  unfold i3
  rw [Int32.ofInt_mul]
theorem i3_neg (a : Int) : -i3 a = i3 (-a) := by
  unfold i3
  rw [Int32.ofInt_neg]
theorem i3_lt {a b : Int} (ha : rg a) (hb : rg b) : i3 a < i3 b ↔ a < b := by rw [Int32.lt_iff_toInt_lt, i3_toInt ha, i3_toInt hb]
theorem i3_le {a b : Int} (ha : rg a) (hb : rg b) : i3 a ≤ i3 b ↔ a ≤ b := by rw [Int32.le_iff_toInt_le, i3_toInt ha, i3_toInt hb]
theorem i3_eq {a b : Int} (ha : rg a) (hb : rg b) : i3 a = i3 b ↔ a = b := by rw [← Int32.toInt_inj, i3_toInt ha, i3_toInt hb]
theorem i3_ofNat (n : Nat) : Int32.ofNat n = i3 (n : Int) := by
  unfold i3
  rw [← Int32.toInt_inj, Int32.toInt_ofInt, Int32.toInt_ofNat']
theorem i3_nat (n : Nat) : (OfNat.ofNat n : Int32) = i3 (n : Int) := i3_ofNat n
theorem i3_clamp {n : Int} (h : rg n) : (i3 n).toNatClampNeg = n.toNat := by
  show (i3 n).toInt.toNat = _
  rw [i3_toInt h]
theorem mw_intCases (w : Int32) : ∃ n : Int, rg n ∧ w = i3 n := ⟨w.toInt, i3_rg w, (i3_of w).symm⟩
