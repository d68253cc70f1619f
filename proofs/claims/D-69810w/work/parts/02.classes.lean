/-! the classes whose objects stand in the abstract heap: tables (printed by gen/classes.py out of claim/names) -/
set_option maxRecDepth 100000
def RX1 : String := "CoinJudge"
def TX1 : u_T := fun k => match k with
  | 0 => ("CoinJudge", "digests", "LCoinJudge$Digests;", true)
  | 1 => ("CoinJudge", "curve", "LCoinJudge$Curve;", true)
  | 2 => ("CoinJudge", "machine", "LCoinJudge$Machine;", true)
  | 3 => ("CoinJudge", "signing", "LCoinJudge$Signing;", true)
  | 4 => ("CoinJudge", "coins", "LCoinJudge$Coins;", true)
  | 5 => ("CoinJudge", "blocks", "[LCoinJudge$Block;", true)
  | 6 => ("CoinJudge", "blockCount", "I", false)
  | 7 => ("CoinJudge", "tip", "LCoinJudge$Block;", false)
  | 8 => ("CoinJudge", "why", "I", false)
  | 9 => ("CoinJudge", "tape", "[B", true)
  | 10 => ("CoinJudge", "taped", "I", false)
  | 11 => ("CoinJudge", "scratch", "[B", true)
  | 12 => ("CoinJudge", "out", "[B", true)
  | 13 => ("CoinJudge", "target", "LCoinJudge$Big;", true)
  | 14 => ("CoinJudge", "hash", "LCoinJudge$Big;", true)
  | 15 => ("CoinJudge", "one", "LCoinJudge$Big;", true)
  | 16 => ("CoinJudge", "draft", "LCoinJudge$Draft;", true)
  | _ => ("CoinJudge", "single", "LCoinJudge$Sink;", true)
def tyX1 : Nat → FieldType := fun k => match k with
  | 0 => .object "CoinJudge$Digests"
  | 1 => .object "CoinJudge$Curve"
  | 2 => .object "CoinJudge$Machine"
  | 3 => .object "CoinJudge$Signing"
  | 4 => .object "CoinJudge$Coins"
  | 5 => .array (.object "CoinJudge$Block")
  | 6 => .int
  | 7 => .object "CoinJudge$Block"
  | 8 => .int
  | 9 => .array .byte
  | 10 => .int
  | 11 => .array .byte
  | 12 => .array .byte
  | 13 => .object "CoinJudge$Big"
  | 14 => .object "CoinJudge$Big"
  | 15 => .object "CoinJudge$Big"
  | 16 => .object "CoinJudge$Draft"
  | _ => .object "CoinJudge$Sink"
abbrev wsX10 : List Cond := u_ws RX1 TX1 18
theorem nmX1 : ∀ a, a < 18 → ∀ b, b < 18 → a ≠ b → (TX1 a).2.1 ≠ (TX1 b).2.1 := by decide +kernel
theorem tyX1_ok : ∀ k, k < 18 → parseFieldDescriptor (TX1 k).2.2.1 = some (tyX1 k) := by decide +kernel
theorem in_X1 : ∀ w ∈ wsX10, w ∈ lw_all := lw_in wsX10 [1750, 1752, 1754, 1756, 1758, 1760, 1762, 1764, 1766, 1768, 1770, 1772, 1774, 1776, 1778, 1780, 1782, 1784] (by decide +kernel) (by decide +kernel)
def RX2 : String := "CoinJudge$Digests"
def TX2 : u_T := fun k => match k with
  | 0 => ("CoinJudge$Digests", "roundConstants", "[I", true)
  | 1 => ("CoinJudge$Digests", "begin", "[I", true)
  | 2 => ("CoinJudge$Digests", "state", "[I", true)
  | 3 => ("CoinJudge$Digests", "words", "[I", true)
  | 4 => ("CoinJudge$Digests", "ripe", "[I", true)
  | 5 => ("CoinJudge$Digests", "left", "[I", true)
  | 6 => ("CoinJudge$Digests", "right", "[I", true)
  | 7 => ("CoinJudge$Digests", "block", "[B", true)
  | 8 => ("CoinJudge$Digests", "between", "[B", true)
  | 9 => ("CoinJudge$Digests", "order", "[I", true)
  | 10 => ("CoinJudge$Digests", "other", "[I", true)
  | 11 => ("CoinJudge$Digests", "turns", "[I", true)
  | 12 => ("CoinJudge$Digests", "otherTurns", "[I", true)
  | 13 => ("CoinJudge$Digests", "adds", "[I", true)
  | _ => ("CoinJudge$Digests", "otherAdds", "[I", true)
def tyX2 : Nat → FieldType := fun k => match k with
  | 0 => .array .int
  | 1 => .array .int
  | 2 => .array .int
  | 3 => .array .int
  | 4 => .array .int
  | 5 => .array .int
  | 6 => .array .int
  | 7 => .array .byte
  | 8 => .array .byte
  | 9 => .array .int
  | 10 => .array .int
  | 11 => .array .int
  | 12 => .array .int
  | 13 => .array .int
  | _ => .array .int
abbrev wsX20 : List Cond := u_ws RX2 TX2 15
theorem nmX2 : ∀ a, a < 15 → ∀ b, b < 15 → a ≠ b → (TX2 a).2.1 ≠ (TX2 b).2.1 := by decide +kernel
theorem tyX2_ok : ∀ k, k < 15 → parseFieldDescriptor (TX2 k).2.2.1 = some (tyX2 k) := by decide +kernel
theorem in_X2 : ∀ w ∈ wsX20, w ∈ lw_all := lw_in wsX20 [252, 254, 256, 258, 260, 262, 264, 266, 268, 270, 272, 274, 276, 278, 280] (by decide +kernel) (by decide +kernel)
def RX3 : String := "CoinJudge$Curve"
def TX3 : u_T := fun k => match k with
  | 0 => ("CoinJudge$Curve", "field", "LCoinJudge$Ring;", true)
  | 1 => ("CoinJudge$Curve", "scalars", "LCoinJudge$Ring;", true)
  | 2 => ("CoinJudge$Curve", "base", "LCoinJudge$Point;", true)
  | 3 => ("CoinJudge$Curve", "a", "LCoinJudge$Big;", true)
  | 4 => ("CoinJudge$Curve", "b", "LCoinJudge$Big;", true)
  | 5 => ("CoinJudge$Curve", "c", "LCoinJudge$Big;", true)
  | 6 => ("CoinJudge$Curve", "d", "LCoinJudge$Big;", true)
  | 7 => ("CoinJudge$Curve", "e", "LCoinJudge$Big;", true)
  | 8 => ("CoinJudge$Curve", "f", "LCoinJudge$Big;", true)
  | 9 => ("CoinJudge$Curve", "sum", "LCoinJudge$Point;", true)
  | 10 => ("CoinJudge$Curve", "key", "LCoinJudge$Point;", true)
  | 11 => ("CoinJudge$Curve", "left", "LCoinJudge$Point;", true)
  | 12 => ("CoinJudge$Curve", "right", "LCoinJudge$Point;", true)
  | 13 => ("CoinJudge$Curve", "\x72", "LCoinJudge$Big;", true)
  | 14 => ("CoinJudge$Curve", "s", "LCoinJudge$Big;", true)
  | 15 => ("CoinJudge$Curve", "h", "LCoinJudge$Big;", true)
  | 16 => ("CoinJudge$Curve", "u", "LCoinJudge$Big;", true)
  | _ => ("CoinJudge$Curve", "v", "LCoinJudge$Big;", true)
def tyX3 : Nat → FieldType := fun k => match k with
  | 0 => .object "CoinJudge$Ring"
  | 1 => .object "CoinJudge$Ring"
  | 2 => .object "CoinJudge$Point"
  | 3 => .object "CoinJudge$Big"
  | 4 => .object "CoinJudge$Big"
  | 5 => .object "CoinJudge$Big"
  | 6 => .object "CoinJudge$Big"
  | 7 => .object "CoinJudge$Big"
  | 8 => .object "CoinJudge$Big"
  | 9 => .object "CoinJudge$Point"
  | 10 => .object "CoinJudge$Point"
  | 11 => .object "CoinJudge$Point"
  | 12 => .object "CoinJudge$Point"
  | 13 => .object "CoinJudge$Big"
  | 14 => .object "CoinJudge$Big"
  | 15 => .object "CoinJudge$Big"
  | 16 => .object "CoinJudge$Big"
  | _ => .object "CoinJudge$Big"
abbrev wsX30 : List Cond := u_ws RX3 TX3 18
theorem nmX3 : ∀ a, a < 18 → ∀ b, b < 18 → a ≠ b → (TX3 a).2.1 ≠ (TX3 b).2.1 := by decide +kernel
theorem tyX3_ok : ∀ k, k < 18 → parseFieldDescriptor (TX3 k).2.2.1 = some (tyX3 k) := by decide +kernel
theorem in_X3 : ∀ w ∈ wsX30, w ∈ lw_all := lw_in wsX30 [453, 455, 457, 459, 461, 463, 465, 467, 469, 471, 473, 475, 477, 479, 481, 483, 485, 487] (by decide +kernel) (by decide +kernel)
def RX4 : String := "CoinJudge$Ring"
def TX4 : u_T := fun k => match k with
  | 0 => ("CoinJudge$Ring", "modulus", "LCoinJudge$Big;", true)
  | 1 => ("CoinJudge$Ring", "rest", "LCoinJudge$Big;", true)
  | 2 => ("CoinJudge$Ring", "wide", "[I", true)
  | 3 => ("CoinJudge$Ring", "next", "[I", true)
  | 4 => ("CoinJudge$Ring", "exponent", "LCoinJudge$Big;", true)
  | 5 => ("CoinJudge$Ring", "power", "LCoinJudge$Big;", true)
  | 6 => ("CoinJudge$Ring", "low", "LCoinJudge$Big;", true)
  | 7 => ("CoinJudge$Ring", "base", "LCoinJudge$Big;", true)
  | _ => ("CoinJudge$Ring", "lessTwo", "LCoinJudge$Big;", true)
def tyX4 : Nat → FieldType := fun k => match k with
  | 0 => .object "CoinJudge$Big"
  | 1 => .object "CoinJudge$Big"
  | 2 => .array .int
  | 3 => .array .int
  | 4 => .object "CoinJudge$Big"
  | 5 => .object "CoinJudge$Big"
  | 6 => .object "CoinJudge$Big"
  | 7 => .object "CoinJudge$Big"
  | _ => .object "CoinJudge$Big"
abbrev wsX40 : List Cond := u_ws RX4 TX4 9
theorem nmX4 : ∀ a, a < 9 → ∀ b, b < 9 → a ≠ b → (TX4 a).2.1 ≠ (TX4 b).2.1 := by decide +kernel
theorem tyX4_ok : ∀ k, k < 9 → parseFieldDescriptor (TX4 k).2.2.1 = some (tyX4 k) := by decide +kernel
theorem in_X4 : ∀ w ∈ wsX40, w ∈ lw_all := lw_in wsX40 [388, 390, 392, 394, 396, 398, 400, 402, 404] (by decide +kernel) (by decide +kernel)
def RX5 : String := "CoinJudge$Big"
def TX5 : u_T := fun k => match k with
  | _ => ("CoinJudge$Big", "w", "[I", true)
def tyX5 : Nat → FieldType := fun k => match k with
  | _ => .array .int
abbrev wsX50 : List Cond := u_ws RX5 TX5 1
theorem nmX5 : ∀ a, a < 1 → ∀ b, b < 1 → a ≠ b → (TX5 a).2.1 ≠ (TX5 b).2.1 := by decide +kernel
theorem tyX5_ok : ∀ k, k < 1 → parseFieldDescriptor (TX5 k).2.2.1 = some (tyX5 k) := by decide +kernel
theorem in_X5 : ∀ w ∈ wsX50, w ∈ lw_all := lw_in wsX50 [303] (by decide +kernel) (by decide +kernel)
def RX6 : String := "CoinJudge$Point"
def TX6 : u_T := fun k => match k with
  | 0 => ("CoinJudge$Point", "x", "LCoinJudge$Big;", true)
  | 1 => ("CoinJudge$Point", "y", "LCoinJudge$Big;", true)
  | _ => ("CoinJudge$Point", "z", "LCoinJudge$Big;", true)
def tyX6 : Nat → FieldType := fun k => match k with
  | 0 => .object "CoinJudge$Big"
  | 1 => .object "CoinJudge$Big"
  | _ => .object "CoinJudge$Big"
abbrev wsX60 : List Cond := u_ws RX6 TX6 3
theorem nmX6 : ∀ a, a < 3 → ∀ b, b < 3 → a ≠ b → (TX6 a).2.1 ≠ (TX6 b).2.1 := by decide +kernel
theorem tyX6_ok : ∀ k, k < 3 → parseFieldDescriptor (TX6 k).2.2.1 = some (tyX6 k) := by decide +kernel
theorem in_X6 : ∀ w ∈ wsX60, w ∈ lw_all := lw_in wsX60 [422, 424, 426] (by decide +kernel) (by decide +kernel)
def RX7 : String := "CoinJudge$Machine"
def TX7 : u_T := fun k => match k with
  | 0 => ("CoinJudge$Machine", "digests", "LCoinJudge$Digests;", true)
  | 1 => ("CoinJudge$Machine", "stack", "[LCoinJudge$Element;", true)
  | 2 => ("CoinJudge$Machine", "other", "[LCoinJudge$Element;", true)
  | 3 => ("CoinJudge$Machine", "kept", "[LCoinJudge$Element;", true)
  | 4 => ("CoinJudge$Machine", "top", "I", false)
  | 5 => ("CoinJudge$Machine", "otherTop", "I", false)
  | 6 => ("CoinJudge$Machine", "keptTop", "I", false)
  | 7 => ("CoinJudge$Machine", "branches", "[Z", true)
  | 8 => ("CoinJudge$Machine", "depth", "I", false)
  | 9 => ("CoinJudge$Machine", "code", "[B", true)
  | 10 => ("CoinJudge$Machine", "without", "[B", true)
  | 11 => ("CoinJudge$Machine", "digest", "[B", true)
  | _ => ("CoinJudge$Machine", "inner", "[B", true)
def tyX7 : Nat → FieldType := fun k => match k with
  | 0 => .object "CoinJudge$Digests"
  | 1 => .array (.object "CoinJudge$Element")
  | 2 => .array (.object "CoinJudge$Element")
  | 3 => .array (.object "CoinJudge$Element")
  | 4 => .int
  | 5 => .int
  | 6 => .int
  | 7 => .array .boolean
  | 8 => .int
  | 9 => .array .byte
  | 10 => .array .byte
  | 11 => .array .byte
  | _ => .array .byte
abbrev wsX70 : List Cond := u_ws RX7 TX7 13
theorem nmX7 : ∀ a, a < 13 → ∀ b, b < 13 → a ≠ b → (TX7 a).2.1 ≠ (TX7 b).2.1 := by decide +kernel
theorem tyX7_ok : ∀ k, k < 13 → parseFieldDescriptor (TX7 k).2.2.1 = some (tyX7 k) := by decide +kernel
theorem in_X7 : ∀ w ∈ wsX70, w ∈ lw_all := lw_in wsX70 [511, 513, 515, 517, 519, 521, 523, 525, 527, 529, 531, 533, 535] (by decide +kernel) (by decide +kernel)
def RX8 : String := "CoinJudge$Signing"
def TX8 : u_T := fun k => match k with
  | 0 => ("CoinJudge$Signing", "digests", "LCoinJudge$Digests;", true)
  | 1 => ("CoinJudge$Signing", "curve", "LCoinJudge$Curve;", true)
  | 2 => ("CoinJudge$Signing", "bytes", "[B", true)
  | 3 => ("CoinJudge$Signing", "size", "I", false)
  | 4 => ("CoinJudge$Signing", "digest", "[B", true)
  | 5 => ("CoinJudge$Signing", "source", "[B", false)
  | 6 => ("CoinJudge$Signing", "tx", "LCoinJudge$Tx;", false)
  | _ => ("CoinJudge$Signing", "input", "I", false)
def tyX8 : Nat → FieldType := fun k => match k with
  | 0 => .object "CoinJudge$Digests"
  | 1 => .object "CoinJudge$Curve"
  | 2 => .array .byte
  | 3 => .int
  | 4 => .array .byte
  | 5 => .array .byte
  | 6 => .object "CoinJudge$Tx"
  | _ => .int
abbrev wsX80 : List Cond := u_ws RX8 TX8 8
theorem nmX8 : ∀ a, a < 8 → ∀ b, b < 8 → a ≠ b → (TX8 a).2.1 ≠ (TX8 b).2.1 := by decide +kernel
theorem tyX8_ok : ∀ k, k < 8 → parseFieldDescriptor (TX8 k).2.2.1 = some (tyX8 k) := by decide +kernel
theorem in_X8 : ∀ w ∈ wsX80, w ∈ lw_all := lw_in wsX80 [553, 555, 557, 559, 561, 563, 565, 567] (by decide +kernel) (by decide +kernel)
def RX9 : String := "CoinJudge$Coins"
def TX9 : u_T := fun k => match k with
  | 0 => ("CoinJudge$Coins", "places", "[LCoinJudge$Coin;", true)
  | 1 => ("CoinJudge$Coins", "count", "I", false)
  | _ => ("CoinJudge$Coins", "value", "J", false)
def tyX9 : Nat → FieldType := fun k => match k with
  | 0 => .array (.object "CoinJudge$Coin")
  | 1 => .int
  | _ => .long
abbrev wsX90 : List Cond := u_ws RX9 TX9 3
theorem nmX9 : ∀ a, a < 3 → ∀ b, b < 3 → a ≠ b → (TX9 a).2.1 ≠ (TX9 b).2.1 := by decide +kernel
theorem tyX9_ok : ∀ k, k < 3 → parseFieldDescriptor (TX9 k).2.2.1 = some (tyX9 k) := by decide +kernel
theorem in_X9 : ∀ w ∈ wsX90, w ∈ lw_all := lw_in wsX90 [583, 585, 587] (by decide +kernel) (by decide +kernel)
def RX10 : String := "CoinJudge$Draft"
def TX10 : u_T := fun k => match k with
  | 0 => ("CoinJudge$Draft", "parent", "LCoinJudge$Block;", false)
  | 1 => ("CoinJudge$Draft", "time", "J", false)
  | 2 => ("CoinJudge$Draft", "txs", "[LCoinJudge$DraftTx;", true)
  | 3 => ("CoinJudge$Draft", "count", "I", false)
  | _ => ("CoinJudge$Draft", "sink", "LCoinJudge$Sink;", true)
def tyX10 : Nat → FieldType := fun k => match k with
  | 0 => .object "CoinJudge$Block"
  | 1 => .long
  | 2 => .array (.object "CoinJudge$DraftTx")
  | 3 => .int
  | _ => .object "CoinJudge$Sink"
abbrev wsX100 : List Cond := u_ws RX10 TX10 5
theorem nmX10 : ∀ a, a < 5 → ∀ b, b < 5 → a ≠ b → (TX10 a).2.1 ≠ (TX10 b).2.1 := by decide +kernel
theorem tyX10_ok : ∀ k, k < 5 → parseFieldDescriptor (TX10 k).2.2.1 = some (tyX10 k) := by decide +kernel
theorem in_X10 : ∀ w ∈ wsX100, w ∈ lw_all := lw_in wsX100 [630, 632, 634, 636, 638] (by decide +kernel) (by decide +kernel)
def RX11 : String := "CoinJudge$Sink"
def TX11 : u_T := fun k => match k with
  | 0 => ("CoinJudge$Sink", "bytes", "[B", true)
  | _ => ("CoinJudge$Sink", "size", "I", false)
def tyX11 : Nat → FieldType := fun k => match k with
  | 0 => .array .byte
  | _ => .int
abbrev wsX110 : List Cond := u_ws RX11 TX11 2
theorem nmX11 : ∀ a, a < 2 → ∀ b, b < 2 → a ≠ b → (TX11 a).2.1 ≠ (TX11 b).2.1 := by decide +kernel
theorem tyX11_ok : ∀ k, k < 2 → parseFieldDescriptor (TX11 k).2.2.1 = some (tyX11 k) := by decide +kernel
theorem in_X11 : ∀ w ∈ wsX110, w ∈ lw_all := lw_in wsX110 [615, 617] (by decide +kernel) (by decide +kernel)
def RX12 : String := "CoinJudge$DraftTx"
def TX12 : u_T := fun k => match k with
  | 0 => ("CoinJudge$DraftTx", "version", "J", false)
  | 1 => ("CoinJudge$DraftTx", "lock", "J", false)
  | 2 => ("CoinJudge$DraftTx", "inputs", "[LCoinJudge$DraftInput;", true)
  | 3 => ("CoinJudge$DraftTx", "outputs", "[LCoinJudge$DraftOutput;", true)
  | 4 => ("CoinJudge$DraftTx", "inputCount", "I", false)
  | _ => ("CoinJudge$DraftTx", "outputCount", "I", false)
def tyX12 : Nat → FieldType := fun k => match k with
  | 0 => .long
  | 1 => .long
  | 2 => .array (.object "CoinJudge$DraftInput")
  | 3 => .array (.object "CoinJudge$DraftOutput")
  | 4 => .int
  | _ => .int
abbrev wsX120 : List Cond := u_ws RX12 TX12 6
theorem nmX12 : ∀ a, a < 6 → ∀ b, b < 6 → a ≠ b → (TX12 a).2.1 ≠ (TX12 b).2.1 := by decide +kernel
theorem tyX12_ok : ∀ k, k < 6 → parseFieldDescriptor (TX12 k).2.2.1 = some (tyX12 k) := by decide +kernel
theorem in_X12 : ∀ w ∈ wsX120, w ∈ lw_all := lw_in wsX120 [676, 678, 680, 682, 684, 686] (by decide +kernel) (by decide +kernel)
def RX13 : String := "CoinJudge$DraftInput"
def TX13 : u_T := fun k => match k with
  | 0 => ("CoinJudge$DraftInput", "txid", "[B", true)
  | 1 => ("CoinJudge$DraftInput", "index", "I", false)
  | 2 => ("CoinJudge$DraftInput", "sequence", "J", false)
  | _ => ("CoinJudge$DraftInput", "script", "LCoinJudge$Sink;", true)
def tyX13 : Nat → FieldType := fun k => match k with
  | 0 => .array .byte
  | 1 => .int
  | 2 => .long
  | _ => .object "CoinJudge$Sink"
abbrev wsX130 : List Cond := u_ws RX13 TX13 4
theorem nmX13 : ∀ a, a < 4 → ∀ b, b < 4 → a ≠ b → (TX13 a).2.1 ≠ (TX13 b).2.1 := by decide +kernel
theorem tyX13_ok : ∀ k, k < 4 → parseFieldDescriptor (TX13 k).2.2.1 = some (tyX13 k) := by decide +kernel
theorem in_X13 : ∀ w ∈ wsX130, w ∈ lw_all := lw_in wsX130 [717, 719, 721, 723] (by decide +kernel) (by decide +kernel)
def RX14 : String := "CoinJudge$DraftOutput"
def TX14 : u_T := fun k => match k with
  | 0 => ("CoinJudge$DraftOutput", "value", "J", false)
  | _ => ("CoinJudge$DraftOutput", "script", "LCoinJudge$Sink;", true)
def tyX14 : Nat → FieldType := fun k => match k with
  | 0 => .long
  | _ => .object "CoinJudge$Sink"
abbrev wsX140 : List Cond := u_ws RX14 TX14 2
theorem nmX14 : ∀ a, a < 2 → ∀ b, b < 2 → a ≠ b → (TX14 a).2.1 ≠ (TX14 b).2.1 := by decide +kernel
theorem tyX14_ok : ∀ k, k < 2 → parseFieldDescriptor (TX14 k).2.2.1 = some (tyX14 k) := by decide +kernel
theorem in_X14 : ∀ w ∈ wsX140, w ∈ lw_all := lw_in wsX140 [820, 822] (by decide +kernel) (by decide +kernel)
def RX15 : String := "CoinJudge$Block"
def TX15 : u_T := fun k => match k with
  | 0 => ("CoinJudge$Block", "number", "I", false)
  | 1 => ("CoinJudge$Block", "bytes", "[B", false)
  | 2 => ("CoinJudge$Block", "size", "I", false)
  | 3 => ("CoinJudge$Block", "hash", "[B", true)
  | 4 => ("CoinJudge$Block", "parent", "LCoinJudge$Block;", false)
  | 5 => ("CoinJudge$Block", "height", "I", false)
  | 6 => ("CoinJudge$Block", "work", "LCoinJudge$Big;", true)
  | 7 => ("CoinJudge$Block", "time", "J", false)
  | 8 => ("CoinJudge$Block", "bits", "I", false)
  | 9 => ("CoinJudge$Block", "txs", "[LCoinJudge$Tx;", false)
  | 10 => ("CoinJudge$Block", "state", "LCoinJudge$State;", false)
  | _ => ("CoinJudge$Block", "taken", "Ljava/util/List;", true)
def tyX15 : Nat → FieldType := fun k => match k with
  | 0 => .int
  | 1 => .array .byte
  | 2 => .int
  | 3 => .array .byte
  | 4 => .object "CoinJudge$Block"
  | 5 => .int
  | 6 => .object "CoinJudge$Big"
  | 7 => .long
  | 8 => .int
  | 9 => .array (.object "CoinJudge$Tx")
  | 10 => .object "CoinJudge$State"
  | _ => .object "java/util/List"
abbrev wsX150 : List Cond := u_ws RX15 TX15 12
theorem nmX15 : ∀ a, a < 12 → ∀ b, b < 12 → a ≠ b → (TX15 a).2.1 ≠ (TX15 b).2.1 := by decide +kernel
theorem tyX15_ok : ∀ k, k < 12 → parseFieldDescriptor (TX15 k).2.2.1 = some (tyX15 k) := by decide +kernel
theorem in_X15 : ∀ w ∈ wsX150, w ∈ lw_all := lw_in wsX150 [990, 992, 994, 996, 998, 1000, 1002, 1004, 1006, 1008, 1010, 1012] (by decide +kernel) (by decide +kernel)
def RX16 : String := "CoinJudge$Source"
def TX16 : u_T := fun k => match k with
  | 0 => ("CoinJudge$Source", "bytes", "[B", true)
  | 1 => ("CoinJudge$Source", "at", "I", false)
  | _ => ("CoinJudge$Source", "end", "I", true)
def tyX16 : Nat → FieldType := fun k => match k with
  | 0 => .array .byte
  | 1 => .int
  | _ => .int
abbrev wsX160 : List Cond := u_ws RX16 TX16 3
theorem nmX16 : ∀ a, a < 3 → ∀ b, b < 3 → a ≠ b → (TX16 a).2.1 ≠ (TX16 b).2.1 := by decide +kernel
theorem tyX16_ok : ∀ k, k < 3 → parseFieldDescriptor (TX16 k).2.2.1 = some (tyX16 k) := by decide +kernel
theorem in_X16 : ∀ w ∈ wsX160, w ∈ lw_all := lw_in wsX160 [1024, 1026, 1028] (by decide +kernel) (by decide +kernel)
def RX17 : String := "CoinJudge$Broken"
def TX17 : u_T := fun k => match k with
  | 0 => ("java/lang/Throwable", "cause", "Ljava/lang/Throwable;", false)
  | 1 => ("java/lang/Throwable", "stackTrace", "[Ljava/lang/StackTraceElement;", false)
  | 2 => ("java/lang/Throwable", "suppressedExceptions", "Ljava/util/List;", false)
  | 3 => ("java/lang/Throwable", "detailMessage", "Ljava/lang/String;", false)
  | 4 => ("java/lang/Throwable", "backtrace", "Ljava/lang/Object;", false)
  | _ => ("java/lang/Throwable", "depth", "I", false)
def tyX17 : Nat → FieldType := fun k => match k with
  | 0 => .object "java/lang/Throwable"
  | 1 => .array (.object "java/lang/StackTraceElement")
  | 2 => .object "java/util/List"
  | 3 => .object "java/lang/String"
  | 4 => .object "java/lang/Object"
  | _ => .int
abbrev wsX170 : List Cond := u_ws RX17 TX17 6
theorem nmX17 : ∀ a, a < 6 → ∀ b, b < 6 → a ≠ b → (TX17 a).2.1 ≠ (TX17 b).2.1 := by decide +kernel
theorem tyX17_ok : ∀ k, k < 6 → parseFieldDescriptor (TX17 k).2.2.1 = some (tyX17 k) := by decide +kernel
theorem in_X17 : ∀ w ∈ wsX170, w ∈ lw_all := lw_in wsX170 [1040, 1041, 1042, 1043, 1044, 1049] (by decide +kernel) (by decide +kernel)
def RX18 : String := "CoinJudge$Tx"
def TX18 : u_T := fun k => match k with
  | 0 => ("CoinJudge$Tx", "begin", "I", false)
  | 1 => ("CoinJudge$Tx", "end", "I", false)
  | 2 => ("CoinJudge$Tx", "id", "[B", true)
  | 3 => ("CoinJudge$Tx", "version", "J", false)
  | 4 => ("CoinJudge$Tx", "lock", "J", false)
  | 5 => ("CoinJudge$Tx", "inputs", "[LCoinJudge$Input;", false)
  | _ => ("CoinJudge$Tx", "outputs", "[LCoinJudge$Output;", false)
def tyX18 : Nat → FieldType := fun k => match k with
  | 0 => .int
  | 1 => .int
  | 2 => .array .byte
  | 3 => .long
  | 4 => .long
  | 5 => .array (.object "CoinJudge$Input")
  | _ => .array (.object "CoinJudge$Output")
abbrev wsX180 : List Cond := u_ws RX18 TX18 7
theorem nmX18 : ∀ a, a < 7 → ∀ b, b < 7 → a ≠ b → (TX18 a).2.1 ≠ (TX18 b).2.1 := by decide +kernel
theorem tyX18_ok : ∀ k, k < 7 → parseFieldDescriptor (TX18 k).2.2.1 = some (tyX18 k) := by decide +kernel
theorem in_X18 : ∀ w ∈ wsX180, w ∈ lw_all := lw_in wsX180 [1091, 1093, 1095, 1097, 1099, 1101, 1103] (by decide +kernel) (by decide +kernel)
def RX19 : String := "CoinJudge$Input"
def TX19 : u_T := fun k => match k with
  | 0 => ("CoinJudge$Input", "txid", "I", false)
  | 1 => ("CoinJudge$Input", "index", "I", false)
  | 2 => ("CoinJudge$Input", "script", "I", false)
  | 3 => ("CoinJudge$Input", "scriptSize", "I", false)
  | _ => ("CoinJudge$Input", "sequence", "J", false)
def tyX19 : Nat → FieldType := fun k => match k with
  | 0 => .int
  | 1 => .int
  | 2 => .int
  | 3 => .int
  | _ => .long
abbrev wsX190 : List Cond := u_ws RX19 TX19 5
theorem nmX19 : ∀ a, a < 5 → ∀ b, b < 5 → a ≠ b → (TX19 a).2.1 ≠ (TX19 b).2.1 := by decide +kernel
theorem tyX19_ok : ∀ k, k < 5 → parseFieldDescriptor (TX19 k).2.2.1 = some (tyX19 k) := by decide +kernel
theorem in_X19 : ∀ w ∈ wsX190, w ∈ lw_all := lw_in wsX190 [1126, 1128, 1130, 1132, 1134] (by decide +kernel) (by decide +kernel)
def RX20 : String := "CoinJudge$Output"
def TX20 : u_T := fun k => match k with
  | 0 => ("CoinJudge$Output", "value", "J", false)
  | 1 => ("CoinJudge$Output", "script", "I", false)
  | _ => ("CoinJudge$Output", "scriptSize", "I", false)
def tyX20 : Nat → FieldType := fun k => match k with
  | 0 => .long
  | 1 => .int
  | _ => .int
abbrev wsX200 : List Cond := u_ws RX20 TX20 3
theorem nmX20 : ∀ a, a < 3 → ∀ b, b < 3 → a ≠ b → (TX20 a).2.1 ≠ (TX20 b).2.1 := by decide +kernel
theorem tyX20_ok : ∀ k, k < 3 → parseFieldDescriptor (TX20 k).2.2.1 = some (tyX20 k) := by decide +kernel
theorem in_X20 : ∀ w ∈ wsX200, w ∈ lw_all := lw_in wsX200 [1153, 1155, 1157] (by decide +kernel) (by decide +kernel)
def RX21 : String := "CoinJudge$Refused"
def TX21 : u_T := fun k => match k with
  | 0 => ("java/lang/Throwable", "cause", "Ljava/lang/Throwable;", false)
  | 1 => ("java/lang/Throwable", "stackTrace", "[Ljava/lang/StackTraceElement;", false)
  | 2 => ("java/lang/Throwable", "suppressedExceptions", "Ljava/util/List;", false)
  | 3 => ("java/lang/Throwable", "detailMessage", "Ljava/lang/String;", false)
  | 4 => ("java/lang/Throwable", "backtrace", "Ljava/lang/Object;", false)
  | 5 => ("java/lang/Throwable", "depth", "I", false)
  | _ => ("CoinJudge$Refused", "why", "I", true)
def tyX21 : Nat → FieldType := fun k => match k with
  | 0 => .object "java/lang/Throwable"
  | 1 => .array (.object "java/lang/StackTraceElement")
  | 2 => .object "java/util/List"
  | 3 => .object "java/lang/String"
  | 4 => .object "java/lang/Object"
  | 5 => .int
  | _ => .int
abbrev wsX210 : List Cond := u_ws RX21 TX21 7
theorem nmX21 : ∀ a, a < 7 → ∀ b, b < 7 → a ≠ b → (TX21 a).2.1 ≠ (TX21 b).2.1 := by decide +kernel
theorem tyX21_ok : ∀ k, k < 7 → parseFieldDescriptor (TX21 k).2.2.1 = some (tyX21 k) := by decide +kernel
theorem in_X21 : ∀ w ∈ wsX210, w ∈ lw_all := lw_in wsX210 [1233, 1234, 1235, 1236, 1237, 1245, 1243] (by decide +kernel) (by decide +kernel)
def RX22 : String := "CoinJudge$Element"
def TX22 : u_T := fun k => match k with
  | 0 => ("CoinJudge$Element", "bytes", "[B", true)
  | _ => ("CoinJudge$Element", "size", "I", false)
def tyX22 : Nat → FieldType := fun k => match k with
  | 0 => .array .byte
  | _ => .int
abbrev wsX220 : List Cond := u_ws RX22 TX22 2
theorem nmX22 : ∀ a, a < 2 → ∀ b, b < 2 → a ≠ b → (TX22 a).2.1 ≠ (TX22 b).2.1 := by decide +kernel
theorem tyX22_ok : ∀ k, k < 2 → parseFieldDescriptor (TX22 k).2.2.1 = some (tyX22 k) := by decide +kernel
theorem in_X22 : ∀ w ∈ wsX220, w ∈ lw_all := lw_in wsX220 [1298, 1300] (by decide +kernel) (by decide +kernel)
def RX23 : String := "CoinJudge$Coin"
def TX23 : u_T := fun k => match k with
  | 0 => ("CoinJudge$Coin", "block", "LCoinJudge$Block;", true)
  | 1 => ("CoinJudge$Coin", "tx", "LCoinJudge$Tx;", true)
  | _ => ("CoinJudge$Coin", "index", "I", true)
def tyX23 : Nat → FieldType := fun k => match k with
  | 0 => .object "CoinJudge$Block"
  | 1 => .object "CoinJudge$Tx"
  | _ => .int
abbrev wsX230 : List Cond := u_ws RX23 TX23 3
theorem nmX23 : ∀ a, a < 3 → ∀ b, b < 3 → a ≠ b → (TX23 a).2.1 ≠ (TX23 b).2.1 := by decide +kernel
theorem tyX23_ok : ∀ k, k < 3 → parseFieldDescriptor (TX23 k).2.2.1 = some (tyX23 k) := by decide +kernel
theorem in_X23 : ∀ w ∈ wsX230, w ∈ lw_all := lw_in wsX230 [1684, 1686, 1688] (by decide +kernel) (by decide +kernel)
def RX24 : String := "CoinJudgeModel"
def TX24 : u_T := fun k => match k with
  | 0 => ("CoinJudgeModel", "padded", "[B", true)
  | 1 => ("CoinJudgeModel", "state", "[I", true)
  | 2 => ("CoinJudgeModel", "words", "[I", true)
  | 3 => ("CoinJudgeModel", "shaStart", "[I", true)
  | 4 => ("CoinJudgeModel", "shaRound", "[I", true)
  | 5 => ("CoinJudgeModel", "once", "[J", true)
  | 6 => ("CoinJudgeModel", "square", "[J", true)
  | 7 => ("CoinJudgeModel", "cube", "[J", true)
  | 8 => ("CoinJudgeModel", "v", "[I", true)
  | 9 => ("CoinJudgeModel", "orders", "[I", true)
  | 10 => ("CoinJudgeModel", "turns", "[I", true)
  | 11 => ("CoinJudgeModel", "added", "[I", true)
  | 12 => ("CoinJudgeModel", "left", "[I", true)
  | 13 => ("CoinJudgeModel", "right", "[I", true)
  | 14 => ("CoinJudgeModel", "inner", "[B", true)
  | 15 => ("CoinJudgeModel", "field", "LCoinJudgeModel$Ring;", true)
  | 16 => ("CoinJudgeModel", "order", "LCoinJudgeModel$Ring;", true)
  | 17 => ("CoinJudgeModel", "seven", "[I", true)
  | 18 => ("CoinJudgeModel", "generator", "LCoinJudgeModel$Point;", true)
  | 19 => ("CoinJudgeModel", "key", "LCoinJudgeModel$Point;", true)
  | 20 => ("CoinJudgeModel", "sum", "LCoinJudgeModel$Point;", true)
  | 21 => ("CoinJudgeModel", "work", "LCoinJudgeModel$Point;", true)
  | 22 => ("CoinJudgeModel", "a", "[I", true)
  | 23 => ("CoinJudgeModel", "b", "[I", true)
  | 24 => ("CoinJudgeModel", "c", "[I", true)
  | 25 => ("CoinJudgeModel", "d", "[I", true)
  | 26 => ("CoinJudgeModel", "e", "[I", true)
  | 27 => ("CoinJudgeModel", "f", "[I", true)
  | 28 => ("CoinJudgeModel", "px", "[I", true)
  | 29 => ("CoinJudgeModel", "py", "[I", true)
  | 30 => ("CoinJudgeModel", "\x72", "[I", true)
  | 31 => ("CoinJudgeModel", "s", "[I", true)
  | 32 => ("CoinJudgeModel", "h", "[I", true)
  | 33 => ("CoinJudgeModel", "u1", "[I", true)
  | 34 => ("CoinJudgeModel", "u2", "[I", true)
  | 35 => ("CoinJudgeModel", "message", "[B", true)
  | 36 => ("CoinJudgeModel", "at", "I", false)
  | 37 => ("CoinJudgeModel", "limit", "I", false)
  | 38 => ("CoinJudgeModel", "text", "[B", false)
  | 39 => ("CoinJudgeModel", "broken", "Z", false)
  | 40 => ("CoinJudgeModel", "scriptAt", "I", false)
  | 41 => ("CoinJudgeModel", "scriptLength", "I", false)
  | 42 => ("CoinJudgeModel", "easiest", "[I", true)
  | 43 => ("CoinJudgeModel", "goal", "[I", true)
  | 44 => ("CoinJudgeModel", "one", "[I", true)
  | 45 => ("CoinJudgeModel", "rest", "[I", true)
  | 46 => ("CoinJudgeModel", "blocks", "[LCoinJudgeModel$Block;", true)
  | 47 => ("CoinJudgeModel", "kept", "I", false)
  | 48 => ("CoinJudgeModel", "best", "I", false)
  | 49 => ("CoinJudgeModel", "coins", "[I", true)
  | 50 => ("CoinJudgeModel", "coinCount", "I", false)
  | 51 => ("CoinJudgeModel", "trial", "[I", true)
  | 52 => ("CoinJudgeModel", "trialCount", "I", false)
  | 53 => ("CoinJudgeModel", "times", "[J", true)
  | 54 => ("CoinJudgeModel", "wide", "[I", true)
  | 55 => ("CoinJudgeModel", "reason", "I", false)
  | 56 => ("CoinJudgeModel", "judged", "LCoinJudgeModel$Parsed;", true)
  | 57 => ("CoinJudgeModel", "judgedHash", "[B", true)
  | 58 => ("CoinJudgeModel", "tree", "[B", true)
  | 59 => ("CoinJudgeModel", "both", "[B", true)
  | 60 => ("CoinJudgeModel", "root", "[B", true)
  | 61 => ("CoinJudgeModel", "aim", "[I", true)
  | 62 => ("CoinJudgeModel", "found", "[I", true)
  | 63 => ("CoinJudgeModel", "pushed", "I", false)
  | 64 => ("CoinJudgeModel", "path", "[I", true)
  | 65 => ("CoinJudgeModel", "stack", "[[B", true)
  | 66 => ("CoinJudgeModel", "sizes", "[I", true)
  | 67 => ("CoinJudgeModel", "top", "I", false)
  | 68 => ("CoinJudgeModel", "others", "[[B", true)
  | 69 => ("CoinJudgeModel", "otherSizes", "[I", true)
  | 70 => ("CoinJudgeModel", "otherTop", "I", false)
  | 71 => ("CoinJudgeModel", "saved", "[[B", true)
  | 72 => ("CoinJudgeModel", "savedSizes", "[I", true)
  | 73 => ("CoinJudgeModel", "savedTop", "I", false)
  | 74 => ("CoinJudgeModel", "failed", "Z", false)
  | 75 => ("CoinJudgeModel", "small", "[B", true)
  | 76 => ("CoinJudgeModel", "inBlock", "LCoinJudgeModel$Parsed;", false)
  | 77 => ("CoinJudgeModel", "inTx", "I", false)
  | 78 => ("CoinJudgeModel", "inInput", "I", false)
  | 79 => ("CoinJudgeModel", "code", "[B", false)
  | 80 => ("CoinJudgeModel", "codeFrom", "I", false)
  | 81 => ("CoinJudgeModel", "codeEnd", "I", false)
  | 82 => ("CoinJudgeModel", "operations", "I", false)
  | 83 => ("CoinJudgeModel", "conditions", "[Z", true)
  | 84 => ("CoinJudgeModel", "open", "I", false)
  | 85 => ("CoinJudgeModel", "needed", "[I", true)
  | 86 => ("CoinJudgeModel", "digest", "[B", true)
  | 87 => ("CoinJudgeModel", "cut", "[B", false)
  | 88 => ("CoinJudgeModel", "less", "[B", false)
  | 89 => ("CoinJudgeModel", "cutLength", "I", false)
  | 90 => ("CoinJudgeModel", "signed", "[B", true)
  | 91 => ("CoinJudgeModel", "signedLength", "I", false)
  | 92 => ("CoinJudgeModel", "draftParent", "I", false)
  | 93 => ("CoinJudgeModel", "draftTime", "J", false)
  | 94 => ("CoinJudgeModel", "txs", "I", false)
  | 95 => ("CoinJudgeModel", "versions", "[J", true)
  | 96 => ("CoinJudgeModel", "locks", "[J", true)
  | 97 => ("CoinJudgeModel", "inputs", "[I", true)
  | 98 => ("CoinJudgeModel", "outputs", "[I", true)
  | 99 => ("CoinJudgeModel", "inIds", "[B", true)
  | 100 => ("CoinJudgeModel", "sequences", "[J", true)
  | 101 => ("CoinJudgeModel", "inScripts", "[[B", true)
  | 102 => ("CoinJudgeModel", "inLengths", "[I", true)
  | 103 => ("CoinJudgeModel", "values", "[J", true)
  | 104 => ("CoinJudgeModel", "outScripts", "[[B", true)
  | 105 => ("CoinJudgeModel", "outLengths", "[I", true)
  | 106 => ("CoinJudgeModel", "made", "[B", false)
  | 107 => ("CoinJudgeModel", "madeLength", "I", false)
  | 108 => ("CoinJudgeModel", "draftIds", "[B", true)
  | 109 => ("CoinJudgeModel", "tape", "[B", true)
  | 110 => ("CoinJudgeModel", "taped", "I", false)
  | 111 => ("CoinJudgeModel", "code1", "I", false)
  | 112 => ("CoinJudgeModel", "least", "[I", true)
  | 113 => ("CoinJudgeModel", "keyBytes", "[B", true)
  | 114 => ("CoinJudgeModel", "draft", "LCoinJudgeModel$Parsed;", true)
  | 115 => ("CoinJudgeModel", "signature", "[B", true)
  | 116 => ("CoinJudgeModel", "signatureLength", "I", false)
  | 117 => ("CoinJudgeModel", "small32", "[B", true)
  | _ => ("CoinJudgeModel", "seed", "[B", true)
def tyX24 : Nat → FieldType := fun k => match k with
  | 0 => .array .byte
  | 1 => .array .int
  | 2 => .array .int
  | 3 => .array .int
  | 4 => .array .int
  | 5 => .array .long
  | 6 => .array .long
  | 7 => .array .long
  | 8 => .array .int
  | 9 => .array .int
  | 10 => .array .int
  | 11 => .array .int
  | 12 => .array .int
  | 13 => .array .int
  | 14 => .array .byte
  | 15 => .object "CoinJudgeModel$Ring"
  | 16 => .object "CoinJudgeModel$Ring"
  | 17 => .array .int
  | 18 => .object "CoinJudgeModel$Point"
  | 19 => .object "CoinJudgeModel$Point"
  | 20 => .object "CoinJudgeModel$Point"
  | 21 => .object "CoinJudgeModel$Point"
  | 22 => .array .int
  | 23 => .array .int
  | 24 => .array .int
  | 25 => .array .int
  | 26 => .array .int
  | 27 => .array .int
  | 28 => .array .int
  | 29 => .array .int
  | 30 => .array .int
  | 31 => .array .int
  | 32 => .array .int
  | 33 => .array .int
  | 34 => .array .int
  | 35 => .array .byte
  | 36 => .int
  | 37 => .int
  | 38 => .array .byte
  | 39 => .boolean
  | 40 => .int
  | 41 => .int
  | 42 => .array .int
  | 43 => .array .int
  | 44 => .array .int
  | 45 => .array .int
  | 46 => .array (.object "CoinJudgeModel$Block")
  | 47 => .int
  | 48 => .int
  | 49 => .array .int
  | 50 => .int
  | 51 => .array .int
  | 52 => .int
  | 53 => .array .long
  | 54 => .array .int
  | 55 => .int
  | 56 => .object "CoinJudgeModel$Parsed"
  | 57 => .array .byte
  | 58 => .array .byte
  | 59 => .array .byte
  | 60 => .array .byte
  | 61 => .array .int
  | 62 => .array .int
  | 63 => .int
  | 64 => .array .int
  | 65 => .array (.array .byte)
  | 66 => .array .int
  | 67 => .int
  | 68 => .array (.array .byte)
  | 69 => .array .int
  | 70 => .int
  | 71 => .array (.array .byte)
  | 72 => .array .int
  | 73 => .int
  | 74 => .boolean
  | 75 => .array .byte
  | 76 => .object "CoinJudgeModel$Parsed"
  | 77 => .int
  | 78 => .int
  | 79 => .array .byte
  | 80 => .int
  | 81 => .int
  | 82 => .int
  | 83 => .array .boolean
  | 84 => .int
  | 85 => .array .int
  | 86 => .array .byte
  | 87 => .array .byte
  | 88 => .array .byte
  | 89 => .int
  | 90 => .array .byte
  | 91 => .int
  | 92 => .int
  | 93 => .long
  | 94 => .int
  | 95 => .array .long
  | 96 => .array .long
  | 97 => .array .int
  | 98 => .array .int
  | 99 => .array .byte
  | 100 => .array .long
  | 101 => .array (.array .byte)
  | 102 => .array .int
  | 103 => .array .long
  | 104 => .array (.array .byte)
  | 105 => .array .int
  | 106 => .array .byte
  | 107 => .int
  | 108 => .array .byte
  | 109 => .array .byte
  | 110 => .int
  | 111 => .int
  | 112 => .array .int
  | 113 => .array .byte
  | 114 => .object "CoinJudgeModel$Parsed"
  | 115 => .array .byte
  | 116 => .int
  | 117 => .array .byte
  | _ => .array .byte
abbrev wsX240 : List Cond := u_ws RX24 TX24 119
theorem nmX24 : ∀ a, a < 119 → ∀ b, b < 119 → a ≠ b → (TX24 a).2.1 ≠ (TX24 b).2.1 := by decide +kernel
theorem tyX24_ok : ∀ k, k < 119 → parseFieldDescriptor (TX24 k).2.2.1 = some (tyX24 k) := by decide +kernel
theorem in_X24 : ∀ w ∈ wsX240, w ∈ lw_all := lw_in wsX240 [2817, 2819, 2821, 2823, 2825, 2827, 2829, 2831, 2833, 2835, 2837, 2839, 2841, 2843, 2845, 2847, 2849, 2851, 2853, 2855, 2857, 2859, 2861, 2863, 2865, 2867, 2869, 2871, 2873, 2875, 2877, 2879, 2881, 2883, 2885, 2887, 2889, 2891, 2893, 2895, 2897, 2899, 2901, 2903, 2905, 2907, 2909, 2911, 2913, 2915, 2917, 2919, 2921, 2923, 2925, 2927, 2929, 2931, 2933, 2935, 2937, 2939, 2941, 2943, 2945, 2947, 2949, 2951, 2953, 2955, 2957, 2959, 2961, 2963, 2965, 2967, 2969, 2971, 2973, 2975, 2977, 2979, 2981, 2983, 2985, 2987, 2989, 2991, 2993, 2995, 2997, 2999, 3001, 3003, 3005, 3007, 3009, 3011, 3013, 3015, 3017, 3019, 3021, 3023, 3025, 3027, 3029, 3031, 3033, 3035, 3037, 3039, 3041, 3043, 3045, 3047, 3049, 3051, 3053] (by decide +kernel) (by decide +kernel)
def RX25 : String := "CoinJudgeModel$Point"
def TX25 : u_T := fun k => match k with
  | 0 => ("CoinJudgeModel$Point", "x", "[I", true)
  | 1 => ("CoinJudgeModel$Point", "y", "[I", true)
  | _ => ("CoinJudgeModel$Point", "z", "[I", true)
def tyX25 : Nat → FieldType := fun k => match k with
  | 0 => .array .int
  | 1 => .array .int
  | _ => .array .int
abbrev wsX250 : List Cond := u_ws RX25 TX25 3
theorem nmX25 : ∀ a, a < 3 → ∀ b, b < 3 → a ≠ b → (TX25 a).2.1 ≠ (TX25 b).2.1 := by decide +kernel
theorem tyX25_ok : ∀ k, k < 3 → parseFieldDescriptor (TX25 k).2.2.1 = some (tyX25 k) := by decide +kernel
theorem in_X25 : ∀ w ∈ wsX250, w ∈ lw_all := lw_in wsX250 [2127, 2129, 2131] (by decide +kernel) (by decide +kernel)
def RX26 : String := "CoinJudgeModel$Parsed"
def TX26 : u_T := fun k => match k with
  | 0 => ("CoinJudgeModel$Parsed", "bytes", "[B", false)
  | 1 => ("CoinJudgeModel$Parsed", "count", "I", false)
  | 2 => ("CoinJudgeModel$Parsed", "starts", "[I", true)
  | 3 => ("CoinJudgeModel$Parsed", "ends", "[I", true)
  | 4 => ("CoinJudgeModel$Parsed", "ins", "[I", true)
  | 5 => ("CoinJudgeModel$Parsed", "outs", "[I", true)
  | 6 => ("CoinJudgeModel$Parsed", "firstIn", "[I", true)
  | 7 => ("CoinJudgeModel$Parsed", "firstOut", "[I", true)
  | _ => ("CoinJudgeModel$Parsed", "ids", "[B", true)
def tyX26 : Nat → FieldType := fun k => match k with
  | 0 => .array .byte
  | 1 => .int
  | 2 => .array .int
  | 3 => .array .int
  | 4 => .array .int
  | 5 => .array .int
  | 6 => .array .int
  | 7 => .array .int
  | _ => .array .byte
abbrev wsX260 : List Cond := u_ws RX26 TX26 9
theorem nmX26 : ∀ a, a < 9 → ∀ b, b < 9 → a ≠ b → (TX26 a).2.1 ≠ (TX26 b).2.1 := by decide +kernel
theorem tyX26_ok : ∀ k, k < 9 → parseFieldDescriptor (TX26 k).2.2.1 = some (tyX26 k) := by decide +kernel
theorem in_X26 : ∀ w ∈ wsX260, w ∈ lw_all := lw_in wsX260 [2158, 2160, 2162, 2164, 2166, 2168, 2170, 2172, 2174] (by decide +kernel) (by decide +kernel)
def RX27 : String := "CoinJudgeModel$Ring"
def TX27 : u_T := fun k => match k with
  | 0 => ("CoinJudgeModel$Ring", "modulus", "[I", true)
  | 1 => ("CoinJudgeModel$Ring", "minus", "I", true)
  | 2 => ("CoinJudgeModel$Ring", "one", "[I", true)
  | 3 => ("CoinJudgeModel$Ring", "twice", "[I", true)
  | 4 => ("CoinJudgeModel$Ring", "plain", "[I", true)
  | 5 => ("CoinJudgeModel$Ring", "row", "[I", true)
  | 6 => ("CoinJudgeModel$Ring", "base", "[I", true)
  | _ => ("CoinJudgeModel$Ring", "other", "[I", true)
def tyX27 : Nat → FieldType := fun k => match k with
  | 0 => .array .int
  | 1 => .int
  | 2 => .array .int
  | 3 => .array .int
  | 4 => .array .int
  | 5 => .array .int
  | 6 => .array .int
  | _ => .array .int
abbrev wsX270 : List Cond := u_ws RX27 TX27 8
theorem nmX27 : ∀ a, a < 8 → ∀ b, b < 8 → a ≠ b → (TX27 a).2.1 ≠ (TX27 b).2.1 := by decide +kernel
theorem tyX27_ok : ∀ k, k < 8 → parseFieldDescriptor (TX27 k).2.2.1 = some (tyX27 k) := by decide +kernel
theorem in_X27 : ∀ w ∈ wsX270, w ∈ lw_all := lw_in wsX270 [2218, 2220, 2222, 2224, 2226, 2228, 2230, 2232] (by decide +kernel) (by decide +kernel)
def RX28 : String := "CoinJudgeModel$Block"
def TX28 : u_T := fun k => match k with
  | 0 => ("CoinJudgeModel$Block", "bytes", "[B", true)
  | 1 => ("CoinJudgeModel$Block", "length", "I", false)
  | 2 => ("CoinJudgeModel$Block", "hash", "[B", true)
  | 3 => ("CoinJudgeModel$Block", "parsed", "LCoinJudgeModel$Parsed;", true)
  | 4 => ("CoinJudgeModel$Block", "height", "I", false)
  | 5 => ("CoinJudgeModel$Block", "parent", "I", false)
  | 6 => ("CoinJudgeModel$Block", "bad", "Z", false)
  | 7 => ("CoinJudgeModel$Block", "checked", "Z", false)
  | _ => ("CoinJudgeModel$Block", "work", "[I", true)
def tyX28 : Nat → FieldType := fun k => match k with
  | 0 => .array .byte
  | 1 => .int
  | 2 => .array .byte
  | 3 => .object "CoinJudgeModel$Parsed"
  | 4 => .int
  | 5 => .int
  | 6 => .boolean
  | 7 => .boolean
  | _ => .array .int
abbrev wsX280 : List Cond := u_ws RX28 TX28 9
theorem nmX28 : ∀ a, a < 9 → ∀ b, b < 9 → a ≠ b → (TX28 a).2.1 ≠ (TX28 b).2.1 := by decide +kernel
theorem tyX28_ok : ∀ k, k < 9 → parseFieldDescriptor (TX28 k).2.2.1 = some (tyX28 k) := by decide +kernel
theorem in_X28 : ∀ w ∈ wsX280, w ∈ lw_all := lw_in wsX280 [2400, 2402, 2404, 2406, 2408, 2410, 2412, 2414, 2416] (by decide +kernel) (by decide +kernel)
def RJ13 : String := "java/util/ArrayList"
def TJ13 : u_T := fun k => match k with
  | 0 => ("java/util/AbstractList", "modCount", "I", false)
  | 1 => ("java/util/ArrayList", "elementData", "[Ljava/lang/Object;", false)
  | _ => ("java/util/ArrayList", "size", "I", false)
def tyJ13 : Nat → FieldType := fun k => match k with
  | 0 => .int
  | 1 => .array (.object "java/lang/Object")
  | _ => .int
abbrev wsJ130 : List Cond := u_ws RJ13 TJ13 3
theorem nmJ13 : ∀ a, a < 3 → ∀ b, b < 3 → a ≠ b → (TJ13 a).2.1 ≠ (TJ13 b).2.1 := by decide +kernel
theorem tyJ13_ok : ∀ k, k < 3 → parseFieldDescriptor (TJ13 k).2.2.1 = some (tyJ13 k) := by decide +kernel
theorem in_J13 : ∀ w ∈ wsJ130, w ∈ lw_all := lw_in wsJ130 [969, 965, 967] (by decide +kernel) (by decide +kernel)
def RJ8 : String := "java/lang/IndexOutOfBoundsException"
def TJ8 : u_T := fun k => match k with
  | 0 => ("java/lang/Throwable", "cause", "Ljava/lang/Throwable;", false)
  | 1 => ("java/lang/Throwable", "stackTrace", "[Ljava/lang/StackTraceElement;", false)
  | 2 => ("java/lang/Throwable", "suppressedExceptions", "Ljava/util/List;", false)
  | 3 => ("java/lang/Throwable", "detailMessage", "Ljava/lang/String;", false)
  | 4 => ("java/lang/Throwable", "backtrace", "Ljava/lang/Object;", false)
  | _ => ("java/lang/Throwable", "depth", "I", false)
def tyJ8 : Nat → FieldType := fun k => match k with
  | 0 => .object "java/lang/Throwable"
  | 1 => .array (.object "java/lang/StackTraceElement")
  | 2 => .object "java/util/List"
  | 3 => .object "java/lang/String"
  | 4 => .object "java/lang/Object"
  | _ => .int
abbrev wsJ80 : List Cond := u_ws RJ8 TJ8 6
theorem nmJ8 : ∀ a, a < 6 → ∀ b, b < 6 → a ≠ b → (TJ8 a).2.1 ≠ (TJ8 b).2.1 := by decide +kernel
theorem tyJ8_ok : ∀ k, k < 6 → parseFieldDescriptor (TJ8 k).2.2.1 = some (tyJ8 k) := by decide +kernel
theorem in_J8 : ∀ w ∈ wsJ80, w ∈ lw_all := lw_in wsJ80 [745, 747, 749, 751, 753, 798] (by decide +kernel) (by decide +kernel)
def RJ18 : String := "java/lang/IllegalArgumentException"
def TJ18 : u_T := fun k => match k with
  | 0 => ("java/lang/Throwable", "cause", "Ljava/lang/Throwable;", false)
  | 1 => ("java/lang/Throwable", "stackTrace", "[Ljava/lang/StackTraceElement;", false)
  | 2 => ("java/lang/Throwable", "suppressedExceptions", "Ljava/util/List;", false)
  | 3 => ("java/lang/Throwable", "detailMessage", "Ljava/lang/String;", false)
  | 4 => ("java/lang/Throwable", "backtrace", "Ljava/lang/Object;", false)
  | _ => ("java/lang/Throwable", "depth", "I", false)
def tyJ18 : Nat → FieldType := fun k => match k with
  | 0 => .object "java/lang/Throwable"
  | 1 => .array (.object "java/lang/StackTraceElement")
  | 2 => .object "java/util/List"
  | 3 => .object "java/lang/String"
  | 4 => .object "java/lang/Object"
  | _ => .int
abbrev wsJ180 : List Cond := u_ws RJ18 TJ18 6
theorem nmJ18 : ∀ a, a < 6 → ∀ b, b < 6 → a ≠ b → (TJ18 a).2.1 ≠ (TJ18 b).2.1 := by decide +kernel
theorem tyJ18_ok : ∀ k, k < 6 → parseFieldDescriptor (TJ18 k).2.2.1 = some (tyJ18 k) := by decide +kernel
theorem in_J18 : ∀ w ∈ wsJ180, w ∈ lw_all := lw_in wsJ180 [1847, 1848, 1849, 1850, 1851, 1856] (by decide +kernel) (by decide +kernel)
def RJ19 : String := "java/lang/IllegalStateException"
def TJ19 : u_T := fun k => match k with
  | 0 => ("java/lang/Throwable", "cause", "Ljava/lang/Throwable;", false)
  | 1 => ("java/lang/Throwable", "stackTrace", "[Ljava/lang/StackTraceElement;", false)
  | 2 => ("java/lang/Throwable", "suppressedExceptions", "Ljava/util/List;", false)
  | 3 => ("java/lang/Throwable", "detailMessage", "Ljava/lang/String;", false)
  | 4 => ("java/lang/Throwable", "backtrace", "Ljava/lang/Object;", false)
  | _ => ("java/lang/Throwable", "depth", "I", false)
def tyJ19 : Nat → FieldType := fun k => match k with
  | 0 => .object "java/lang/Throwable"
  | 1 => .array (.object "java/lang/StackTraceElement")
  | 2 => .object "java/util/List"
  | 3 => .object "java/lang/String"
  | 4 => .object "java/lang/Object"
  | _ => .int
abbrev wsJ190 : List Cond := u_ws RJ19 TJ19 6
theorem nmJ19 : ∀ a, a < 6 → ∀ b, b < 6 → a ≠ b → (TJ19 a).2.1 ≠ (TJ19 b).2.1 := by decide +kernel
theorem tyJ19_ok : ∀ k, k < 6 → parseFieldDescriptor (TJ19 k).2.2.1 = some (tyJ19 k) := by decide +kernel
theorem in_J19 : ∀ w ∈ wsJ190, w ∈ lw_all := lw_in wsJ190 [1923, 1924, 1925, 1926, 1927, 1932] (by decide +kernel) (by decide +kernel)
def RJ20 : String := "java/lang/UnsupportedOperationException"
def TJ20 : u_T := fun k => match k with
  | 0 => ("java/lang/Throwable", "cause", "Ljava/lang/Throwable;", false)
  | 1 => ("java/lang/Throwable", "stackTrace", "[Ljava/lang/StackTraceElement;", false)
  | 2 => ("java/lang/Throwable", "suppressedExceptions", "Ljava/util/List;", false)
  | 3 => ("java/lang/Throwable", "detailMessage", "Ljava/lang/String;", false)
  | 4 => ("java/lang/Throwable", "backtrace", "Ljava/lang/Object;", false)
  | _ => ("java/lang/Throwable", "depth", "I", false)
def tyJ20 : Nat → FieldType := fun k => match k with
  | 0 => .object "java/lang/Throwable"
  | 1 => .array (.object "java/lang/StackTraceElement")
  | 2 => .object "java/util/List"
  | 3 => .object "java/lang/String"
  | 4 => .object "java/lang/Object"
  | _ => .int
abbrev wsJ200 : List Cond := u_ws RJ20 TJ20 6
theorem nmJ20 : ∀ a, a < 6 → ∀ b, b < 6 → a ≠ b → (TJ20 a).2.1 ≠ (TJ20 b).2.1 := by decide +kernel
theorem tyJ20_ok : ∀ k, k < 6 → parseFieldDescriptor (TJ20 k).2.2.1 = some (tyJ20 k) := by decide +kernel
theorem in_J20 : ∀ w ∈ wsJ200, w ∈ lw_all := lw_in wsJ200 [2055, 2056, 2057, 2058, 2059, 2064] (by decide +kernel) (by decide +kernel)
def RJ17 : String := "java/lang/ArrayIndexOutOfBoundsException"
def TJ17 : u_T := fun k => match k with
  | 0 => ("java/lang/Throwable", "backtrace", "Ljava/lang/Object;", false)
  | 1 => ("java/lang/Throwable", "detailMessage", "Ljava/lang/String;", false)
  | 2 => ("java/lang/Throwable", "cause", "Ljava/lang/Throwable;", false)
  | 3 => ("java/lang/Throwable", "stackTrace", "[Ljava/lang/StackTraceElement;", false)
  | 4 => ("java/lang/Throwable", "depth", "I", false)
  | _ => ("java/lang/Throwable", "suppressedExceptions", "Ljava/util/List;", false)
def tyJ17 : Nat → FieldType := fun k => match k with
  | 0 => .object "java/lang/Object"
  | 1 => .object "java/lang/String"
  | 2 => .object "java/lang/Throwable"
  | 3 => .array (.object "java/lang/StackTraceElement")
  | 4 => .int
  | _ => .object "java/util/List"
abbrev wsJ170 : List Cond := u_ws RJ17 TJ17 6
theorem nmJ17 : ∀ a, a < 6 → ∀ b, b < 6 → a ≠ b → (TJ17 a).2.1 ≠ (TJ17 b).2.1 := by decide +kernel
theorem tyJ17_ok : ∀ k, k < 6 → parseFieldDescriptor (TJ17 k).2.2.1 = some (tyJ17 k) := by decide +kernel
theorem in_J17 : ∀ w ∈ wsJ170, w ∈ lw_all := lw_in wsJ170 [1810, 1811, 1812, 1813, 1814, 1815] (by decide +kernel) (by decide +kernel)
def RJ1 : String := "java/lang/String"
def TJ1 : u_T := fun k => match k with
  | 0 => ("java/lang/String", "value", "[B", true)
  | _ => ("java/lang/String", "coder", "B", true)
def tyJ1 : Nat → FieldType := fun k => match k with
  | 0 => .array .byte
  | _ => .byte
abbrev wsJ10 : List Cond := u_ws RJ1 TJ1 2
theorem nmJ1 : ∀ a, a < 2 → ∀ b, b < 2 → a ≠ b → (TJ1 a).2.1 ≠ (TJ1 b).2.1 := by decide +kernel
theorem tyJ1_ok : ∀ k, k < 2 → parseFieldDescriptor (TJ1 k).2.2.1 = some (tyJ1 k) := by decide +kernel
theorem in_J1 : ∀ w ∈ wsJ10, w ∈ lw_all := lw_in wsJ10 [1822, 1824] (by decide +kernel) (by decide +kernel)
/-- a kind below 100 is a place here (place 0 is no kind) -/
def kcl : List vw_C := [(RX5, TX5, 1), (RX1, TX1, 18), (RX2, TX2, 15), (RX3, TX3, 18), (RX4, TX4, 9), (RX5, TX5, 1), (RX6, TX6, 3), (RX7, TX7, 13), (RX8, TX8, 8), (RX9, TX9, 3), (RX10, TX10, 5), (RX11, TX11, 2), (RX12, TX12, 6), (RX13, TX13, 4), (RX14, TX14, 2), (RX15, TX15, 12), (RX16, TX16, 3), (RX17, TX17, 6), (RX18, TX18, 7), (RX19, TX19, 5), (RX20, TX20, 3), (RX21, TX21, 7), (RX22, TX22, 2), (RX23, TX23, 3), (RX24, TX24, 119), (RX25, TX25, 3), (RX26, TX26, 9), (RX27, TX27, 8), (RX28, TX28, 9), (RJ13, TJ13, 3), (RJ8, TJ8, 6), (RJ18, TJ18, 6), (RJ19, TJ19, 6), (RJ20, TJ20, 6), (RJ17, TJ17, 6), (RJ1, TJ1, 2)]
theorem kcl_in : ∀ (k : Nat) (C : String) (T : u_T) (N : Nat), kcl[k]? = some (C, T, N) → (∀ w ∈ u_ws C T N, w ∈ lw_all) ∧ (∃ ty0 : Nat → FieldType, ∀ j, j < N → parseFieldDescriptor (T j).2.2.1 = some (ty0 j)) ∧ (∀ a, a < N → ∀ b, b < N → a ≠ b → (T a).2.1 ≠ (T b).2.1) := by
  intro k C T N h
  match k, h with
  | 0, h => cases h; exact ⟨in_X5, ⟨tyX5, tyX5_ok⟩, nmX5⟩
  | 1, h => cases h; exact ⟨in_X1, ⟨tyX1, tyX1_ok⟩, nmX1⟩
  | 2, h => cases h; exact ⟨in_X2, ⟨tyX2, tyX2_ok⟩, nmX2⟩
  | 3, h => cases h; exact ⟨in_X3, ⟨tyX3, tyX3_ok⟩, nmX3⟩
  | 4, h => cases h; exact ⟨in_X4, ⟨tyX4, tyX4_ok⟩, nmX4⟩
  | 5, h => cases h; exact ⟨in_X5, ⟨tyX5, tyX5_ok⟩, nmX5⟩
  | 6, h => cases h; exact ⟨in_X6, ⟨tyX6, tyX6_ok⟩, nmX6⟩
  | 7, h => cases h; exact ⟨in_X7, ⟨tyX7, tyX7_ok⟩, nmX7⟩
  | 8, h => cases h; exact ⟨in_X8, ⟨tyX8, tyX8_ok⟩, nmX8⟩
  | 9, h => cases h; exact ⟨in_X9, ⟨tyX9, tyX9_ok⟩, nmX9⟩
  | 10, h => cases h; exact ⟨in_X10, ⟨tyX10, tyX10_ok⟩, nmX10⟩
  | 11, h => cases h; exact ⟨in_X11, ⟨tyX11, tyX11_ok⟩, nmX11⟩
  | 12, h => cases h; exact ⟨in_X12, ⟨tyX12, tyX12_ok⟩, nmX12⟩
  | 13, h => cases h; exact ⟨in_X13, ⟨tyX13, tyX13_ok⟩, nmX13⟩
  | 14, h => cases h; exact ⟨in_X14, ⟨tyX14, tyX14_ok⟩, nmX14⟩
  | 15, h => cases h; exact ⟨in_X15, ⟨tyX15, tyX15_ok⟩, nmX15⟩
  | 16, h => cases h; exact ⟨in_X16, ⟨tyX16, tyX16_ok⟩, nmX16⟩
  | 17, h => cases h; exact ⟨in_X17, ⟨tyX17, tyX17_ok⟩, nmX17⟩
  | 18, h => cases h; exact ⟨in_X18, ⟨tyX18, tyX18_ok⟩, nmX18⟩
  | 19, h => cases h; exact ⟨in_X19, ⟨tyX19, tyX19_ok⟩, nmX19⟩
  | 20, h => cases h; exact ⟨in_X20, ⟨tyX20, tyX20_ok⟩, nmX20⟩
  | 21, h => cases h; exact ⟨in_X21, ⟨tyX21, tyX21_ok⟩, nmX21⟩
  | 22, h => cases h; exact ⟨in_X22, ⟨tyX22, tyX22_ok⟩, nmX22⟩
  | 23, h => cases h; exact ⟨in_X23, ⟨tyX23, tyX23_ok⟩, nmX23⟩
  | 24, h => cases h; exact ⟨in_X24, ⟨tyX24, tyX24_ok⟩, nmX24⟩
  | 25, h => cases h; exact ⟨in_X25, ⟨tyX25, tyX25_ok⟩, nmX25⟩
  | 26, h => cases h; exact ⟨in_X26, ⟨tyX26, tyX26_ok⟩, nmX26⟩
  | 27, h => cases h; exact ⟨in_X27, ⟨tyX27, tyX27_ok⟩, nmX27⟩
  | 28, h => cases h; exact ⟨in_X28, ⟨tyX28, tyX28_ok⟩, nmX28⟩
  | 29, h => cases h; exact ⟨in_J13, ⟨tyJ13, tyJ13_ok⟩, nmJ13⟩
  | 30, h => cases h; exact ⟨in_J8, ⟨tyJ8, tyJ8_ok⟩, nmJ8⟩
  | 31, h => cases h; exact ⟨in_J18, ⟨tyJ18, tyJ18_ok⟩, nmJ18⟩
  | 32, h => cases h; exact ⟨in_J19, ⟨tyJ19, tyJ19_ok⟩, nmJ19⟩
  | 33, h => cases h; exact ⟨in_J20, ⟨tyJ20, tyJ20_ok⟩, nmJ20⟩
  | 34, h => cases h; exact ⟨in_J17, ⟨tyJ17, tyJ17_ok⟩, nmJ17⟩
  | 35, h => cases h; exact ⟨in_J1, ⟨tyJ1, tyJ1_ok⟩, nmJ1⟩
  | k + 36, h => simp [kcl] at h
