/-! ===== bitCount on sets of fourteen ===== -/
def bcE (x0 : Int32) : Int32 :=
  let y1 := x0 - (((x0.toUInt32 >>> ((1 : Int32).toUInt32 &&& Int32.toUInt32 31)).toInt32) &&& 1431655765)
  let y2 := (y1 &&& 858993459) + (((y1.toUInt32 >>> ((2 : Int32).toUInt32 &&& Int32.toUInt32 31)).toInt32) &&& 858993459)
  let y3 := (y2 + ((y2.toUInt32 >>> ((4 : Int32).toUInt32 &&& Int32.toUInt32 31)).toInt32)) &&& 252645135
  let y4 := y3 + ((y3.toUInt32 >>> ((8 : Int32).toUInt32 &&& Int32.toUInt32 31)).toInt32)
  let y5 := y4 + ((y4.toUInt32 >>> ((16 : Int32).toUInt32 &&& Int32.toUInt32 31)).toInt32)
  y5 &&& 63
set_option maxRecDepth 10000 in
theorem bcE_all : ∀ a, a < 128 → ∀ b, b < 128 → bcE (nI (128 * a + b)) = nI (bc (128 * a + b)) := by decide +kernel
theorem j_bitCount {N S : Nat} {Ω : zo_O} (h : S < 16384) : fn_J15_bitCount N (nI S) Ω = some (some (vi (nI (bc S))), Ω, 0, 0) := by
  have := bcE_all (S / 128) (by omega) (S % 128) (by omega)
  rw [show 128 * (S / 128) + S % 128 = S by omega] at this
  rw [← this]
  rfl
