section
/-! the classes, statics, constants and words that every method carries -/
def vwCl : List vw_C := [(RX1, TX1, 8), (RX2, TX2, 8), (RX3, TX3, 2), (RX4, TX4, 1), (RX5, TX5, 6), (RX6, TX6, 30), (RX8, TX8, 10), (RX10, TX10, 3), (RX11, TX11, 11), (RX13, TX13, 1), (RX14, TX14, 3), (RX15, TX15, 2), (RJ3, TJ3, 4), (RJ7, TJ7, 5), (RJ33, TJ33, 3), (RJ24, TJ24, 3), (RJ25, TJ25, 3), (RJ31, TJ31, 2), (RJ34, TJ34, 3), (RJ15, TJ15, 4), (RJ16, TJ16, 4), (RX9, TX9, 8), (RJ13, TJ13, 6), (RJ22, TJ22, 6)]
theorem ci_X1 : vwCl[0]? = some (RX1, TX1, 8) := sorry
theorem ci_X2 : vwCl[1]? = some (RX2, TX2, 8) := sorry
theorem ci_X3 : vwCl[2]? = some (RX3, TX3, 2) := sorry
theorem ci_X4 : vwCl[3]? = some (RX4, TX4, 1) := sorry
theorem ci_X5 : vwCl[4]? = some (RX5, TX5, 6) := sorry
theorem ci_X6 : vwCl[5]? = some (RX6, TX6, 30) := sorry
theorem ci_X8 : vwCl[6]? = some (RX8, TX8, 10) := sorry
theorem ci_X10 : vwCl[7]? = some (RX10, TX10, 3) := sorry
theorem ci_X11 : vwCl[8]? = some (RX11, TX11, 11) := sorry
theorem ci_X13 : vwCl[9]? = some (RX13, TX13, 1) := sorry
theorem ci_X14 : vwCl[10]? = some (RX14, TX14, 3) := sorry
theorem ci_X15 : vwCl[11]? = some (RX15, TX15, 2) := sorry
theorem ci_J3 : vwCl[12]? = some (RJ3, TJ3, 4) := sorry
theorem ci_J7 : vwCl[13]? = some (RJ7, TJ7, 5) := sorry
theorem ci_J33 : vwCl[14]? = some (RJ33, TJ33, 3) := sorry
theorem ci_J24 : vwCl[15]? = some (RJ24, TJ24, 3) := sorry
theorem ci_J25 : vwCl[16]? = some (RJ25, TJ25, 3) := sorry
theorem ci_J31 : vwCl[17]? = some (RJ31, TJ31, 2) := sorry
theorem ci_J34 : vwCl[18]? = some (RJ34, TJ34, 3) := sorry
theorem ci_J15 : vwCl[19]? = some (RJ15, TJ15, 4) := sorry
theorem ci_J16 : vwCl[20]? = some (RJ16, TJ16, 4) := sorry
theorem ci_X9 : vwCl[21]? = some (RX9, TX9, 8) := sorry
theorem ci_J13 : vwCl[22]? = some (RJ13, TJ13, 6) := sorry
theorem ci_J22 : vwCl[23]? = some (RJ22, TJ22, 6) := sorry
def zS (cs : Nat → Nat) : List (String × String × String × Value) := [("KrylovLaboratory$Token", "WORD", "LKrylovLaboratory$Token;", .ref (cs 0)), ("KrylovLaboratory$Token", "NUMBER", "LKrylovLaboratory$Token;", .ref (cs 1)), ("KrylovLaboratory$Token", "SIGN", "LKrylovLaboratory$Token;", .ref (cs 2)), ("KrylovLaboratory$Token", "END", "LKrylovLaboratory$Token;", .ref (cs 3)), ("java/lang/String", "COMPACT_STRINGS", "Z", .int 1), ("java/lang/StringUTF16", "$assertionsDisabled", "Z", .int 1), ("java/lang/StringUTF16", "HI_BYTE_SHIFT", "I", .int 0), ("java/lang/StringUTF16", "LO_BYTE_SHIFT", "I", .int 8), ("java/util/ArrayList", "DEFAULTCAPACITY_EMPTY_ELEMENTDATA", "[Ljava/lang/Object;", .ref (cs 4)), ("java/util/ImmutableCollections", "$assertionsDisabled", "Z", .int 1), ("java/util/ImmutableCollections", "EMPTY_LIST", "Ljava/util/ImmutableCollections$ListN;", .ref (cs 5)), ("java/util/ImmutableCollections", "EMPTY", "Ljava/lang/Object;", .ref (cs 6)), ("java/util/BitSet", "$assertionsDisabled", "Z", .int 1), ("java/lang/Integer", "DigitOnes", "[B", .ref (cs 7)), ("java/lang/Integer", "DigitTens", "[B", .ref (cs 8)), ("jdk/internal/util/ArraysSupport", "JLA", "Ljdk/internal/access/JavaLangAccess;", .ref (cs 9))]
def zO (cs : Nat → Nat) : List (String × Nat) := [("KrylovLaboratory$Token", cs 0), ("KrylovLaboratory$Token", cs 1), ("KrylovLaboratory$Token", cs 2), ("KrylovLaboratory$Token", cs 3), ("java/util/ImmutableCollections$ListN", cs 5), ("java/lang/String", cs 100), ("java/lang/String", cs 102), ("java/lang/String", cs 104), ("java/lang/String", cs 106), ("java/lang/String", cs 108), ("java/lang/String", cs 110), ("java/lang/String", cs 112), ("java/lang/String", cs 114), ("java/lang/String", cs 116), ("java/lang/String", cs 118), ("java/lang/String", cs 120), ("java/lang/String", cs 122), ("java/lang/String", cs 124), ("java/lang/String", cs 126), ("java/lang/String", cs 128), ("java/lang/String", cs 130), ("java/lang/String", cs 132), ("java/lang/String", cs 134), ("java/lang/String", cs 136), ("java/lang/String", cs 138), ("java/lang/String", cs 140), ("java/lang/String", cs 142), ("java/lang/String", cs 144), ("java/lang/String", cs 146), ("java/lang/String", cs 148), ("java/lang/String", cs 150), ("java/lang/String", cs 152), ("java/lang/String", cs 154), ("java/lang/String", cs 156), ("java/lang/String", cs 158), ("java/lang/String", cs 160), ("java/lang/String", cs 162), ("java/lang/String", cs 164), ("java/lang/String", cs 166), ("java/lang/String", cs 168), ("java/lang/String", cs 170), ("java/lang/String", cs 172), ("java/lang/String", cs 174), ("java/lang/String", cs 176), ("java/lang/String", cs 178), ("java/lang/String", cs 180), ("java/lang/String", cs 182), ("java/lang/String", cs 184), ("java/lang/String", cs 186), ("java/lang/String", cs 188), ("java/lang/String", cs 190), ("java/lang/String", cs 192)]
def zF (cs : Nat → Nat) : List (String × String × String × Value × Nat) := [("java/lang/String", "coder", "B", .int 0, cs 100), ("java/lang/String", "value", "[B", .ref (cs 101), cs 100), ("java/lang/String", "hash", "I", .int (1830), cs 100), ("java/lang/String", "hashIsZero", "Z", .int 0, cs 100), ("java/lang/String", "coder", "B", .int 0, cs 102), ("java/lang/String", "value", "[B", .ref (cs 103), cs 102), ("java/lang/String", "hash", "I", .int (32706), cs 102), ("java/lang/String", "hashIsZero", "Z", .int 0, cs 102), ("java/lang/String", "coder", "B", .int 0, cs 104), ("java/lang/String", "value", "[B", .ref (cs 105), cs 104), ("java/lang/String", "hash", "I", .int (-1034364087), cs 104), ("java/lang/String", "hashIsZero", "Z", .int 0, cs 104), ("java/lang/String", "coder", "B", .int 0, cs 106), ("java/lang/String", "value", "[B", .ref (cs 107), cs 106), ("java/lang/String", "hash", "I", .int (3530753), cs 106), ("java/lang/String", "hashIsZero", "Z", .int 0, cs 106), ("java/lang/String", "coder", "B", .int 0, cs 108), ("java/lang/String", "value", "[B", .ref (cs 109), cs 108), ("java/lang/String", "hash", "I", .int (747805177), cs 108), ("java/lang/String", "hashIsZero", "Z", .int 0, cs 108), ("java/lang/String", "coder", "B", .int 0, cs 110), ("java/lang/String", "value", "[B", .ref (cs 111), cs 110), ("java/lang/String", "hash", "I", .int (93927806), cs 110), ("java/lang/String", "hashIsZero", "Z", .int 0, cs 110), ("java/lang/String", "coder", "B", .int 0, cs 112), ("java/lang/String", "value", "[B", .ref (cs 113), cs 112), ("java/lang/String", "hash", "I", .int (-1097452790), cs 112), ("java/lang/String", "hashIsZero", "Z", .int 0, cs 112), ("java/lang/String", "coder", "B", .int 0, cs 114), ("java/lang/String", "value", "[B", .ref (cs 115), cs 114), ("java/lang/String", "hash", "I", .int (0), cs 114), ("java/lang/String", "hashIsZero", "Z", .int 1, cs 114), ("java/lang/String", "coder", "B", .int 0, cs 116), ("java/lang/String", "value", "[B", .ref (cs 117), cs 116), ("java/lang/String", "hash", "I", .int (1865747936), cs 116), ("java/lang/String", "hashIsZero", "Z", .int 0, cs 116), ("java/lang/String", "coder", "B", .int 0, cs 118), ("java/lang/String", "value", "[B", .ref (cs 119), cs 118), ("java/lang/String", "hash", "I", .int (252444138), cs 118), ("java/lang/String", "hashIsZero", "Z", .int 0, cs 118), ("java/lang/String", "coder", "B", .int 0, cs 120), ("java/lang/String", "value", "[B", .ref (cs 121), cs 120), ("java/lang/String", "hash", "I", .int (41), cs 120), ("java/lang/String", "hashIsZero", "Z", .int 0, cs 120), ("java/lang/String", "coder", "B", .int 0, cs 122), ("java/lang/String", "value", "[B", .ref (cs 123), cs 122), ("java/lang/String", "hash", "I", .int (106006350), cs 122), ("java/lang/String", "hashIsZero", "Z", .int 0, cs 122), ("java/lang/String", "coder", "B", .int 0, cs 124), ("java/lang/String", "value", "[B", .ref (cs 125), cs 124), ("java/lang/String", "hash", "I", .int (0), cs 124), ("java/lang/String", "hashIsZero", "Z", .int 1, cs 124), ("java/lang/String", "coder", "B", .int 0, cs 126), ("java/lang/String", "value", "[B", .ref (cs 127), cs 126), ("java/lang/String", "hash", "I", .int (-414256221), cs 126), ("java/lang/String", "hashIsZero", "Z", .int 0, cs 126), ("java/lang/String", "coder", "B", .int 0, cs 128), ("java/lang/String", "value", "[B", .ref (cs 129), cs 128), ("java/lang/String", "hash", "I", .int (96667762), cs 128), ("java/lang/String", "hashIsZero", "Z", .int 0, cs 128), ("java/lang/String", "coder", "B", .int 0, cs 130), ("java/lang/String", "value", "[B", .ref (cs 131), cs 130), ("java/lang/String", "hash", "I", .int (109757538), cs 130), ("java/lang/String", "hashIsZero", "Z", .int 0, cs 130), ("java/lang/String", "coder", "B", .int 0, cs 132), ("java/lang/String", "value", "[B", .ref (cs 133), cs 132), ("java/lang/String", "hash", "I", .int (3357091), cs 132), ("java/lang/String", "hashIsZero", "Z", .int 0, cs 132), ("java/lang/String", "coder", "B", .int 0, cs 134), ("java/lang/String", "value", "[B", .ref (cs 135), cs 134), ("java/lang/String", "hash", "I", .int (-1545477013), cs 134), ("java/lang/String", "hashIsZero", "Z", .int 0, cs 134), ("java/lang/String", "coder", "B", .int 0, cs 136), ("java/lang/String", "value", "[B", .ref (cs 137), cs 136), ("java/lang/String", "hash", "I", .int (1033072653), cs 136), ("java/lang/String", "hashIsZero", "Z", .int 0, cs 136), ("java/lang/String", "coder", "B", .int 0, cs 138), ("java/lang/String", "value", "[B", .ref (cs 139), cs 138), ("java/lang/String", "hash", "I", .int (3387192), cs 138), ("java/lang/String", "hashIsZero", "Z", .int 0, cs 138), ("java/lang/String", "coder", "B", .int 0, cs 140), ("java/lang/String", "value", "[B", .ref (cs 141), cs 140), ("java/lang/String", "hash", "I", .int (-1715965348), cs 140), ("java/lang/String", "hashIsZero", "Z", .int 0, cs 140), ("java/lang/String", "coder", "B", .int 0, cs 142), ("java/lang/String", "value", "[B", .ref (cs 143), cs 142), ("java/lang/String", "hash", "I", .int (3154575), cs 142), ("java/lang/String", "hashIsZero", "Z", .int 0, cs 142), ("java/lang/String", "coder", "B", .int 0, cs 144), ("java/lang/String", "value", "[B", .ref (cs 145), cs 144), ("java/lang/String", "hash", "I", .int (32130), cs 144), ("java/lang/String", "hashIsZero", "Z", .int 0, cs 144), ("java/lang/String", "coder", "B", .int 0, cs 146), ("java/lang/String", "value", "[B", .ref (cs 147), cs 146), ("java/lang/String", "hash", "I", .int (97440432), cs 146), ("java/lang/String", "hashIsZero", "Z", .int 0, cs 146), ("java/lang/String", "coder", "B", .int 0, cs 148), ("java/lang/String", "value", "[B", .ref (cs 149), cs 148), ("java/lang/String", "hash", "I", .int (3343967), cs 148), ("java/lang/String", "hashIsZero", "Z", .int 0, cs 148), ("java/lang/String", "coder", "B", .int 0, cs 150), ("java/lang/String", "value", "[B", .ref (cs 151), cs 150), ("java/lang/String", "hash", "I", .int (109267), cs 150), ("java/lang/String", "hashIsZero", "Z", .int 0, cs 150), ("java/lang/String", "coder", "B", .int 0, cs 152), ("java/lang/String", "value", "[B", .ref (cs 153), cs 152), ("java/lang/String", "hash", "I", .int (96727), cs 152), ("java/lang/String", "hashIsZero", "Z", .int 0, cs 152), ("java/lang/String", "coder", "B", .int 0, cs 154), ("java/lang/String", "value", "[B", .ref (cs 155), cs 154), ("java/lang/String", "hash", "I", .int (3555), cs 154), ("java/lang/String", "hashIsZero", "Z", .int 0, cs 154), ("java/lang/String", "coder", "B", .int 0, cs 156), ("java/lang/String", "value", "[B", .ref (cs 157), cs 156), ("java/lang/String", "hash", "I", .int (-1034364087), cs 156), ("java/lang/String", "hashIsZero", "Z", .int 0, cs 156), ("java/lang/String", "coder", "B", .int 0, cs 158), ("java/lang/String", "value", "[B", .ref (cs 159), cs 158), ("java/lang/String", "hash", "I", .int (3530753), cs 158), ("java/lang/String", "hashIsZero", "Z", .int 0, cs 158), ("java/lang/String", "coder", "B", .int 0, cs 160), ("java/lang/String", "value", "[B", .ref (cs 161), cs 160), ("java/lang/String", "hash", "I", .int (747805177), cs 160), ("java/lang/String", "hashIsZero", "Z", .int 0, cs 160), ("java/lang/String", "coder", "B", .int 0, cs 162), ("java/lang/String", "value", "[B", .ref (cs 163), cs 162), ("java/lang/String", "hash", "I", .int (93927806), cs 162), ("java/lang/String", "hashIsZero", "Z", .int 0, cs 162), ("java/lang/String", "coder", "B", .int 0, cs 164), ("java/lang/String", "value", "[B", .ref (cs 165), cs 164), ("java/lang/String", "hash", "I", .int (-1097452790), cs 164), ("java/lang/String", "hashIsZero", "Z", .int 0, cs 164), ("java/lang/String", "coder", "B", .int 0, cs 166), ("java/lang/String", "value", "[B", .ref (cs 167), cs 166), ("java/lang/String", "hash", "I", .int (106006350), cs 166), ("java/lang/String", "hashIsZero", "Z", .int 0, cs 166), ("java/lang/String", "coder", "B", .int 0, cs 168), ("java/lang/String", "value", "[B", .ref (cs 169), cs 168), ("java/lang/String", "hash", "I", .int (96667762), cs 168), ("java/lang/String", "hashIsZero", "Z", .int 0, cs 168), ("java/lang/String", "coder", "B", .int 0, cs 170), ("java/lang/String", "value", "[B", .ref (cs 171), cs 170), ("java/lang/String", "hash", "I", .int (109757538), cs 170), ("java/lang/String", "hashIsZero", "Z", .int 0, cs 170), ("java/lang/String", "coder", "B", .int 0, cs 172), ("java/lang/String", "value", "[B", .ref (cs 173), cs 172), ("java/lang/String", "hash", "I", .int (3357091), cs 172), ("java/lang/String", "hashIsZero", "Z", .int 0, cs 172), ("java/lang/String", "coder", "B", .int 0, cs 174), ("java/lang/String", "value", "[B", .ref (cs 175), cs 174), ("java/lang/String", "hash", "I", .int (3387192), cs 174), ("java/lang/String", "hashIsZero", "Z", .int 0, cs 174), ("java/lang/String", "coder", "B", .int 0, cs 176), ("java/lang/String", "value", "[B", .ref (cs 177), cs 176), ("java/lang/String", "hash", "I", .int (-1715965348), cs 176), ("java/lang/String", "hashIsZero", "Z", .int 0, cs 176), ("java/lang/String", "coder", "B", .int 0, cs 178), ("java/lang/String", "value", "[B", .ref (cs 179), cs 178), ("java/lang/String", "hash", "I", .int (3154575), cs 178), ("java/lang/String", "hashIsZero", "Z", .int 0, cs 178), ("java/lang/String", "coder", "B", .int 0, cs 180), ("java/lang/String", "value", "[B", .ref (cs 181), cs 180), ("java/lang/String", "hash", "I", .int (-1545477013), cs 180), ("java/lang/String", "hashIsZero", "Z", .int 0, cs 180), ("java/lang/String", "coder", "B", .int 0, cs 182), ("java/lang/String", "value", "[B", .ref (cs 183), cs 182), ("java/lang/String", "hash", "I", .int (1033072653), cs 182), ("java/lang/String", "hashIsZero", "Z", .int 0, cs 182), ("java/lang/String", "coder", "B", .int 0, cs 184), ("java/lang/String", "value", "[B", .ref (cs 185), cs 184), ("java/lang/String", "hash", "I", .int (97440432), cs 184), ("java/lang/String", "hashIsZero", "Z", .int 0, cs 184), ("java/lang/String", "coder", "B", .int 0, cs 186), ("java/lang/String", "value", "[B", .ref (cs 187), cs 186), ("java/lang/String", "hash", "I", .int (3343967), cs 186), ("java/lang/String", "hashIsZero", "Z", .int 0, cs 186), ("java/lang/String", "coder", "B", .int 0, cs 188), ("java/lang/String", "value", "[B", .ref (cs 189), cs 188), ("java/lang/String", "hash", "I", .int (109267), cs 188), ("java/lang/String", "hashIsZero", "Z", .int 0, cs 188), ("java/lang/String", "coder", "B", .int 0, cs 190), ("java/lang/String", "value", "[B", .ref (cs 191), cs 190), ("java/lang/String", "hash", "I", .int (96727), cs 190), ("java/lang/String", "hashIsZero", "Z", .int 0, cs 190), ("java/lang/String", "coder", "B", .int 0, cs 192), ("java/lang/String", "value", "[B", .ref (cs 193), cs 192), ("java/lang/String", "hash", "I", .int (3555), cs 192), ("java/lang/String", "hashIsZero", "Z", .int 0, cs 192)]
def zDo : List Int32 := [48, 49, 50, 51, 52, 53, 54, 55, 56, 57, 48, 49, 50, 51, 52, 53, 54, 55, 56, 57, 48, 49, 50, 51, 52, 53, 54, 55, 56, 57, 48, 49, 50, 51, 52, 53, 54, 55, 56, 57, 48, 49, 50, 51, 52, 53, 54, 55, 56, 57, 48, 49, 50, 51, 52, 53, 54, 55, 56, 57, 48, 49, 50, 51, 52, 53, 54, 55, 56, 57, 48, 49, 50, 51, 52, 53, 54, 55, 56, 57, 48, 49, 50, 51, 52, 53, 54, 55, 56, 57, 48, 49, 50, 51, 52, 53, 54, 55, 56, 57]
def zDt : List Int32 := [48, 48, 48, 48, 48, 48, 48, 48, 48, 48, 49, 49, 49, 49, 49, 49, 49, 49, 49, 49, 50, 50, 50, 50, 50, 50, 50, 50, 50, 50, 51, 51, 51, 51, 51, 51, 51, 51, 51, 51, 52, 52, 52, 52, 52, 52, 52, 52, 52, 52, 53, 53, 53, 53, 53, 53, 53, 53, 53, 53, 54, 54, 54, 54, 54, 54, 54, 54, 54, 54, 55, 55, 55, 55, 55, 55, 55, 55, 55, 55, 56, 56, 56, 56, 56, 56, 56, 56, 56, 56, 57, 57, 57, 57, 57, 57, 57, 57, 57, 57]
def zT (cs : Nat → Nat) : List (FieldType × Nat × Nat × (Nat → Value)) := [(.object "java/lang/Object", cs 4, 0, fun _ => .null), (.byte, cs 7, 100, fun j => .int (zDo.getD j 0)), (.byte, cs 8, 100, fun j => .int (zDt.getD j 0)), (.byte, cs 101, 2, fun j => .int (([58, 32] : List Int32).getD j 0)), (.byte, cs 103, 3, fun j => .int (([32, 62, 32] : List Int32).getD j 0)), (.byte, cs 105, 6, fun j => .int (([110, 117, 109, 98, 101, 114] : List Int32).getD j 0)), (.byte, cs 107, 4, fun j => .int (([115, 105, 122, 101] : List Int32).getD j 0)), (.byte, cs 109, 8, fun j => .int (([112, 111, 115, 105, 116, 105, 118, 101] : List Int32).getD j 0)), (.byte, cs 111, 5, fun j => .int (([98, 111, 117, 110, 100] : List Int32).getD j 0)), (.byte, cs 113, 6, fun j => .int (([108, 111, 99, 107, 101, 100] : List Int32).getD j 0)), (.byte, cs 115, 0, fun j => .int (([] : List Int32).getD j 0)), (.byte, cs 117, 10, fun j => .int (([102, 114, 111, 109, 73, 110, 100, 101, 120, 40] : List Int32).getD j 0)), (.byte, cs 119, 12, fun j => .int (([41, 32, 62, 32, 116, 111, 73, 110, 100, 101, 120, 40] : List Int32).getD j 0)), (.byte, cs 121, 1, fun j => .int (([41] : List Int32).getD j 0)), (.byte, cs 123, 5, fun j => .int (([111, 114, 100, 101, 114] : List Int32).getD j 0)), (.byte, cs 125, 0, fun j => .int (([] : List Int32).getD j 0)), (.byte, cs 127, 25, fun j => .int (([117, 110, 114, 101, 99, 111, 103, 110, 105, 122, 101, 100, 32, 98, 97, 115, 105, 99, 32, 116, 121, 112, 101, 58, 32] : List Int32).getD j 0)), (.byte, cs 129, 5, fun j => .int (([101, 110, 116, 114, 121] : List Int32).getD j 0)), (.byte, cs 131, 5, fun j => .int (([115, 116, 97, 114, 116] : List Int32).getD j 0)), (.byte, cs 133, 4, fun j => .int (([109, 111, 100, 101] : List Int32).getD j 0)), (.byte, cs 135, 9, fun j => .int (([116, 104, 114, 101, 115, 104, 111, 108, 100] : List Int32).getD j 0)), (.byte, cs 137, 9, fun j => .int (([116, 111, 108, 101, 114, 97, 110, 99, 101] : List Int32).getD j 0)), (.byte, cs 139, 4, fun j => .int (([110, 111, 110, 101] : List Int32).getD j 0)), (.byte, cs 141, 9, fun j => .int (([115, 101, 108, 101, 99, 116, 105, 118, 101] : List Int32).getD j 0)), (.byte, cs 143, 4, fun j => .int (([102, 117, 108, 108] : List Int32).getD j 0)), (.byte, cs 145, 3, fun j => .int (([32, 43, 45] : List Int32).getD j 0)), (.byte, cs 147, 5, fun j => .int (([102, 105, 114, 115, 116] : List Int32).getD j 0)), (.byte, cs 149, 4, fun j => .int (([109, 97, 110, 121] : List Int32).getD j 0)), (.byte, cs 151, 3, fun j => .int (([110, 111, 116] : List Int32).getD j 0)), (.byte, cs 153, 3, fun j => .int (([97, 110, 100] : List Int32).getD j 0)), (.byte, cs 155, 2, fun j => .int (([111, 114] : List Int32).getD j 0)), (.byte, cs 157, 6, fun j => .int (([110, 117, 109, 98, 101, 114] : List Int32).getD j 0)), (.byte, cs 159, 4, fun j => .int (([115, 105, 122, 101] : List Int32).getD j 0)), (.byte, cs 161, 8, fun j => .int (([112, 111, 115, 105, 116, 105, 118, 101] : List Int32).getD j 0)), (.byte, cs 163, 5, fun j => .int (([98, 111, 117, 110, 100] : List Int32).getD j 0)), (.byte, cs 165, 6, fun j => .int (([108, 111, 99, 107, 101, 100] : List Int32).getD j 0)), (.byte, cs 167, 5, fun j => .int (([111, 114, 100, 101, 114] : List Int32).getD j 0)), (.byte, cs 169, 5, fun j => .int (([101, 110, 116, 114, 121] : List Int32).getD j 0)), (.byte, cs 171, 5, fun j => .int (([115, 116, 97, 114, 116] : List Int32).getD j 0)), (.byte, cs 173, 4, fun j => .int (([109, 111, 100, 101] : List Int32).getD j 0)), (.byte, cs 175, 4, fun j => .int (([110, 111, 110, 101] : List Int32).getD j 0)), (.byte, cs 177, 9, fun j => .int (([115, 101, 108, 101, 99, 116, 105, 118, 101] : List Int32).getD j 0)), (.byte, cs 179, 4, fun j => .int (([102, 117, 108, 108] : List Int32).getD j 0)), (.byte, cs 181, 9, fun j => .int (([116, 104, 114, 101, 115, 104, 111, 108, 100] : List Int32).getD j 0)), (.byte, cs 183, 9, fun j => .int (([116, 111, 108, 101, 114, 97, 110, 99, 101] : List Int32).getD j 0)), (.byte, cs 185, 5, fun j => .int (([102, 105, 114, 115, 116] : List Int32).getD j 0)), (.byte, cs 187, 4, fun j => .int (([109, 97, 110, 121] : List Int32).getD j 0)), (.byte, cs 189, 3, fun j => .int (([110, 111, 116] : List Int32).getD j 0)), (.byte, cs 191, 3, fun j => .int (([97, 110, 100] : List Int32).getD j 0)), (.byte, cs 193, 2, fun j => .int (([111, 114] : List Int32).getD j 0))]
def zQ : List (String × String × String) := [("java/lang/Throwable", "UNASSIGNED_STACK", "[Ljava/lang/StackTraceElement;"), ("java/lang/Throwable", "SUPPRESSED_SENTINEL", "Ljava/util/List;"), ("jdk/internal/util/Preconditions", "SIOOBE_FORMATTER", "Ljava/util/function/BiFunction;")]
def zR (cs : Nat → Nat) : List (String × Nat × String × Nat) := [("java/lang/Throwable", 81, ": ", cs 100), ("java/util/Arrays", 337, " > ", cs 102), ("KrylovLaboratory", 62, "number", cs 104), ("KrylovLaboratory", 64, "size", cs 106), ("KrylovLaboratory", 66, "positive", cs 108), ("KrylovLaboratory", 68, "bound", cs 110), ("KrylovLaboratory", 70, "locked", cs 112), ("KrylovLaboratory", 84, "", cs 114), ("java/util/Arrays", 48, "fromIndex(", cs 116), ("java/util/Arrays", 57, ") > toIndex(", cs 118), ("java/util/Arrays", 59, ")", cs 120), ("KrylovLaboratory$LaboratoryParser", 15, "order", cs 122), ("KrylovLaboratory$Scanner", 93, "", cs 124), ("jdk/internal/util/ArraysSupport", 92, "unrecognized basic type: ", cs 126), ("KrylovLaboratory$LaboratoryParser", 76, "entry", cs 128), ("KrylovLaboratory$LaboratoryParser", 82, "start", cs 130), ("KrylovLaboratory$LaboratoryParser", 84, "mode", cs 132), ("KrylovLaboratory$LaboratoryParser", 86, "threshold", cs 134), ("KrylovLaboratory$LaboratoryParser", 88, "tolerance", cs 136), ("KrylovLaboratory$LaboratoryParser", 122, "none", cs 138), ("KrylovLaboratory$LaboratoryParser", 124, "selective", cs 140), ("KrylovLaboratory$LaboratoryParser", 126, "full", cs 142), ("KrylovLaboratory", 382, " +-", cs 144), ("KrylovLaboratory$QueryParser", 15, "first", cs 146), ("KrylovLaboratory$QueryParser", 25, "many", cs 148), ("KrylovLaboratory$QueryParser", 79, "not", cs 150), ("KrylovLaboratory$QueryParser", 66, "and", cs 152), ("KrylovLaboratory$QueryParser", 56, "or", cs 154), ("KrylovLaboratoryModel", 56, "number", cs 156), ("KrylovLaboratoryModel", 58, "size", cs 158), ("KrylovLaboratoryModel", 60, "positive", cs 160), ("KrylovLaboratoryModel", 62, "bound", cs 162), ("KrylovLaboratoryModel", 64, "locked", cs 164), ("KrylovLaboratoryModel", 442, "order", cs 166), ("KrylovLaboratoryModel", 420, "entry", cs 168), ("KrylovLaboratoryModel", 425, "start", cs 170), ("KrylovLaboratoryModel", 430, "mode", cs 172), ("KrylovLaboratoryModel", 407, "none", cs 174), ("KrylovLaboratoryModel", 412, "selective", cs 176), ("KrylovLaboratoryModel", 414, "full", cs 178), ("KrylovLaboratoryModel", 435, "threshold", cs 180), ("KrylovLaboratoryModel", 437, "tolerance", cs 182), ("KrylovLaboratoryModel", 500, "first", cs 184), ("KrylovLaboratoryModel", 502, "many", cs 186), ("KrylovLaboratoryModel", 466, "not", cs 188), ("KrylovLaboratoryModel", 480, "and", cs 190), ("KrylovLaboratoryModel", 485, "or", cs 192)]
def zN : List Cond := [Jvm.Cond.declares ({ cls := "java/util/AbstractCollection", name := "size", desc := "()I" } : Jvm.MethodName), Jvm.Cond.declares ({ cls := "java/util/AbstractList", name := "listIterator", desc := "()Ljava/util/ListIterator;" } : Jvm.MethodName), Jvm.Cond.declares ({ cls := "java/util/AbstractList", name := "listIterator", desc := "(I)Ljava/util/ListIterator;" } : Jvm.MethodName), Jvm.Cond.declares ({ cls := "java/util/AbstractList", name := "get", desc := "(I)Ljava/lang/Object;" } : Jvm.MethodName), Jvm.Cond.declares ({ cls := "java/util/AbstractList", name := "remove", desc := "(I)Ljava/lang/Object;" } : Jvm.MethodName), Jvm.Cond.declares ({ cls := "java/lang/Throwable", name := "<init>", desc := "()V" } : Jvm.MethodName), Jvm.Cond.declares ({ cls := "java/lang/Throwable", name := "<init>", desc := "(Ljava/lang/String;)V" } : Jvm.MethodName), Jvm.Cond.castable "java/lang/Throwable" "java/lang/Object", Jvm.Cond.declares ({ cls := "java/lang/Exception", name := "<init>", desc := "()V" } : Jvm.MethodName), Jvm.Cond.declares ({ cls := "java/lang/Exception", name := "<init>", desc := "(Ljava/lang/String;)V" } : Jvm.MethodName), Jvm.Cond.declares ({ cls := "java/lang/RuntimeException", name := "<init>", desc := "()V" } : Jvm.MethodName), Jvm.Cond.declares ({ cls := "java/lang/RuntimeException", name := "<init>", desc := "(Ljava/lang/String;)V" } : Jvm.MethodName), Jvm.Cond.castable "java/util/NoSuchElementException" "java/util/NoSuchElementException", Jvm.Cond.castable "java/util/NoSuchElementException" "java/lang/Object", Jvm.Cond.castable "java/lang/StringBuilder" "java/lang/Object", Jvm.Cond.castable "java/lang/String" "java/lang/Object", Jvm.Cond.declares ({ cls := "java/util/AbstractSequentialList", name := "iterator", desc := "()Ljava/util/Iterator;" } : Jvm.MethodName), Jvm.Cond.castable "java/lang/IllegalArgumentException" "java/lang/IllegalArgumentException", Jvm.Cond.castable "java/lang/IllegalArgumentException" "java/lang/Object", Jvm.Cond.castable "java/util/ArrayList" "java/util/List", Jvm.Cond.castable "java/util/ArrayList" "java/lang/Object", Jvm.Cond.castable "java/util/ArrayDeque" "java/lang/Object", Jvm.Cond.declares ({ cls := "java/util/List", name := "indexOf", desc := "(Ljava/lang/Object;)I" } : Jvm.MethodName), Jvm.Cond.methodLinkNest "java/util/ImmutableCollections" (43 : Nat) ({ cls := "java/util/ImmutableCollections$ListN", name := "<init>", desc := "([Ljava/lang/Object;Z)V" } : Jvm.MethodName) "java/util/ImmutableCollections", Jvm.Cond.castable "java/util/LinkedList" "java/util/List", Jvm.Cond.castable "java/util/LinkedList" "java/lang/Object", Jvm.Cond.fieldLinkNest "java/util/ImmutableCollections$List12" (19 : Nat) "java/util/ImmutableCollections" "EMPTY" "Ljava/lang/Object;" "java/util/ImmutableCollections", Jvm.Cond.castable "java/util/ImmutableCollections$List12" "java/util/List", Jvm.Cond.castable "java/util/ImmutableCollections$List12" "java/lang/Object", Jvm.Cond.castable "java/util/ImmutableCollections$ListN" "java/util/List", Jvm.Cond.castable "java/util/ImmutableCollections$ListN" "java/lang/Object", Jvm.Cond.castable "java/util/LinkedList$Node" "java/lang/Object", Jvm.Cond.castable "java/util/BitSet" "java/lang/Object", Jvm.Cond.castable "java/lang/IllegalStateException" "java/lang/IllegalStateException", Jvm.Cond.castable "java/lang/IllegalStateException" "java/lang/Object", Jvm.Cond.castable "java/util/ConcurrentModificationException" "java/util/ConcurrentModificationException", Jvm.Cond.castable "java/util/ConcurrentModificationException" "java/lang/Object", Jvm.Cond.declares ({ cls := "java/lang/Object", name := "equals", desc := "(Ljava/lang/Object;)Z" } : Jvm.MethodName), Jvm.Cond.declares ({ cls := "java/lang/Object", name := "getClass", desc := "()Ljava/lang/Class;" } : Jvm.MethodName), Jvm.Cond.castable "java/lang/System$2" "jdk/internal/access/JavaLangAccess", Jvm.Cond.castable "java/lang/System$2" "java/lang/Object", Jvm.Cond.fieldLinkNest "java/util/ArrayList$Itr" (28 : Nat) "java/util/ArrayList" "size" "I" "java/util/ArrayList", Jvm.Cond.castable "java/util/ArrayList$ListItr" "java/util/Iterator", Jvm.Cond.castable "java/util/ArrayList$ListItr" "java/lang/Object", Jvm.Cond.castable "java/util/LinkedList$ListItr" "java/util/Iterator", Jvm.Cond.castable "java/util/LinkedList$ListItr" "java/lang/Object", Jvm.Cond.fieldLinkNest "KrylovLaboratory" (149 : Nat) "KrylovLaboratory$State" "matrix" "LKrylovLaboratory$Matrix;" "KrylovLaboratory", Jvm.Cond.fieldLinkNest "KrylovLaboratory" (246 : Nat) "KrylovLaboratory$State" "locked" "Ljava/util/LinkedList;" "KrylovLaboratory", Jvm.Cond.fieldLinkNest "KrylovLaboratory" (293 : Nat) "KrylovLaboratory$State" "totals" "[I" "KrylovLaboratory", Jvm.Cond.fieldLinkNest "KrylovLaboratory" (158 : Nat) "KrylovLaboratory$State" "mode" "I" "KrylovLaboratory", Jvm.Cond.fieldLinkNest "KrylovLaboratory" (161 : Nat) "KrylovLaboratory$State" "threshold" "I" "KrylovLaboratory", Jvm.Cond.fieldLinkNest "KrylovLaboratory" (164 : Nat) "KrylovLaboratory$State" "tolerance" "I" "KrylovLaboratory", Jvm.Cond.fieldLinkNest "KrylovLaboratory" (167 : Nat) "KrylovLaboratory$State" "space" "LKrylovLaboratory$Space;" "KrylovLaboratory", Jvm.Cond.fieldLinkNest "KrylovLaboratory" (194 : Nat) "KrylovLaboratory$Vector" "row" "[J" "KrylovLaboratory", Jvm.Cond.fieldLinkNest "KrylovLaboratory" (180 : Nat) "KrylovLaboratory$Space" "basis" "Ljava/util/ArrayList;" "KrylovLaboratory", Jvm.Cond.fieldLinkNest "KrylovLaboratory" (211 : Nat) "KrylovLaboratory$Space" "alpha" "[J" "KrylovLaboratory", Jvm.Cond.fieldLinkNest "KrylovLaboratory" (214 : Nat) "KrylovLaboratory$Space" "beta" "[J" "KrylovLaboratory", Jvm.Cond.fieldLinkNest "KrylovLaboratory" (217 : Nat) "KrylovLaboratory$Space" "estimates" "[[J" "KrylovLaboratory", Jvm.Cond.fieldLinkNest "KrylovLaboratory" (171 : Nat) "KrylovLaboratory$Space" "steps" "I" "KrylovLaboratory", Jvm.Cond.fieldLinkNest "KrylovLaboratory" (176 : Nat) "KrylovLaboratory$Space" "isClosed" "Z" "KrylovLaboratory", Jvm.Cond.fieldLinkNest "KrylovLaboratory" (112 : Nat) "KrylovLaboratory$TextError" "code" "I" "KrylovLaboratory", Jvm.Cond.fieldLinkNest "KrylovLaboratory" (107 : Nat) "KrylovLaboratory$TextError" "position" "I" "KrylovLaboratory", Jvm.Cond.fieldLinkNest "KrylovLaboratory" (262 : Nat) "KrylovLaboratory$Locked" "value" "J" "KrylovLaboratory", Jvm.Cond.fieldLinkNest "KrylovLaboratory" (265 : Nat) "KrylovLaboratory$Locked" "bound" "J" "KrylovLaboratory", Jvm.Cond.fieldLinkNest "KrylovLaboratory" (270 : Nat) "KrylovLaboratory$Locked" "vector" "LKrylovLaboratory$Vector;" "KrylovLaboratory", Jvm.Cond.fieldLinkNest "KrylovLaboratory" (413 : Nat) "KrylovLaboratory$QueryParser" "isFirst" "Z" "KrylovLaboratory", Jvm.Cond.castable "KrylovLaboratory" "java/lang/Object", Jvm.Cond.castable "KrylovLaboratory$Locked" "java/lang/Object", Jvm.Cond.methodLinkNest "KrylovLaboratory$QueryParser" (122 : Nat) ({ cls := "KrylovLaboratory", name := "propertyCode", desc := "(Ljava/lang/String;)I" } : Jvm.MethodName) "KrylovLaboratory", Jvm.Cond.castable "KrylovLaboratory$QueryParser" "java/lang/Object", Jvm.Cond.declares ({ cls := "KrylovLaboratory$Test", name := "holds", desc := "(LKrylovLaboratory$State;I)Z" } : Jvm.MethodName), Jvm.Cond.methodLinkNest "KrylovLaboratory$Not" (1 : Nat) ({ cls := "KrylovLaboratory$Test", name := "<init>", desc := "()V" } : Jvm.MethodName) "KrylovLaboratory", Jvm.Cond.castable "KrylovLaboratory$Not" "KrylovLaboratory$Test", Jvm.Cond.castable "KrylovLaboratory$Not" "java/lang/Object", Jvm.Cond.fieldLinkNest "KrylovLaboratory$Comparison" (23 : Nat) "KrylovLaboratory$State" "space" "LKrylovLaboratory$Space;" "KrylovLaboratory", Jvm.Cond.methodLinkNest "KrylovLaboratory$Comparison" (1 : Nat) ({ cls := "KrylovLaboratory$Test", name := "<init>", desc := "()V" } : Jvm.MethodName) "KrylovLaboratory", Jvm.Cond.methodLinkNest "KrylovLaboratory$Comparison" (40 : Nat) ({ cls := "KrylovLaboratory", name := "asInt", desc := "(Z)I" } : Jvm.MethodName) "KrylovLaboratory", Jvm.Cond.castable "KrylovLaboratory$Comparison" "KrylovLaboratory$Test", Jvm.Cond.castable "KrylovLaboratory$Comparison" "java/lang/Object", Jvm.Cond.methodLinkNest "KrylovLaboratory$Joined" (1 : Nat) ({ cls := "KrylovLaboratory$Test", name := "<init>", desc := "()V" } : Jvm.MethodName) "KrylovLaboratory", Jvm.Cond.castable "KrylovLaboratory$Joined" "KrylovLaboratory$Test", Jvm.Cond.castable "KrylovLaboratory$Joined" "java/lang/Object", Jvm.Cond.fieldLinkNest "KrylovLaboratory$State" (82 : Nat) "KrylovLaboratory$Matrix" "order" "I" "KrylovLaboratory", Jvm.Cond.fieldLinkNest "KrylovLaboratory$State" (139 : Nat) "KrylovLaboratory$Space" "basis" "Ljava/util/ArrayList;" "KrylovLaboratory", Jvm.Cond.fieldLinkNest "KrylovLaboratory$State" (160 : Nat) "KrylovLaboratory$Space" "alpha" "[J" "KrylovLaboratory", Jvm.Cond.fieldLinkNest "KrylovLaboratory$State" (152 : Nat) "KrylovLaboratory$Space" "beta" "[J" "KrylovLaboratory", Jvm.Cond.fieldLinkNest "KrylovLaboratory$State" (174 : Nat) "KrylovLaboratory$Space" "estimates" "[[J" "KrylovLaboratory", Jvm.Cond.fieldLinkNest "KrylovLaboratory$State" (130 : Nat) "KrylovLaboratory$Space" "steps" "I" "KrylovLaboratory", Jvm.Cond.fieldLinkNest "KrylovLaboratory$State" (126 : Nat) "KrylovLaboratory$Space" "isClosed" "Z" "KrylovLaboratory", Jvm.Cond.methodLinkNest "KrylovLaboratory$State" (188 : Nat) ({ cls := "KrylovLaboratory$Space", name := "ends", desc := "(LKrylovLaboratory$Vector;J)V" } : Jvm.MethodName) "KrylovLaboratory", Jvm.Cond.methodLinkNest "KrylovLaboratory$State" (192 : Nat) ({ cls := "KrylovLaboratory$Space", name := "estimates", desc := "(J)V" } : Jvm.MethodName) "KrylovLaboratory", Jvm.Cond.fieldLinkNest "KrylovLaboratory$State" (231 : Nat) "KrylovLaboratory$Locked" "value" "J" "KrylovLaboratory", Jvm.Cond.fieldLinkNest "KrylovLaboratory$State" (241 : Nat) "KrylovLaboratory$Locked" "bound" "J" "KrylovLaboratory", Jvm.Cond.fieldLinkNest "KrylovLaboratory$State" (95 : Nat) "KrylovLaboratory$Locked" "vector" "LKrylovLaboratory$Vector;" "KrylovLaboratory", Jvm.Cond.methodLinkNest "KrylovLaboratory$State" (267 : Nat) ({ cls := "KrylovLaboratory", name := "asInt", desc := "(Z)I" } : Jvm.MethodName) "KrylovLaboratory", Jvm.Cond.castable "KrylovLaboratory$State" "java/lang/Object", Jvm.Cond.fieldLinkNest "KrylovLaboratory$Matrix" (26 : Nat) "KrylovLaboratory$Vector" "row" "[J" "KrylovLaboratory", Jvm.Cond.castable "KrylovLaboratory$Matrix" "java/lang/Object", Jvm.Cond.methodLinkNest "KrylovLaboratory$Vector" (23 : Nat) ({ cls := "KrylovLaboratory", name := "root", desc := "(J)J" } : Jvm.MethodName) "KrylovLaboratory", Jvm.Cond.castable "KrylovLaboratory$Vector" "java/lang/Object", Jvm.Cond.fieldLinkNest "KrylovLaboratory$Space" (120 : Nat) "KrylovLaboratory$Vector" "row" "[J" "KrylovLaboratory", Jvm.Cond.methodLinkNest "KrylovLaboratory$Space" (94 : Nat) ({ cls := "KrylovLaboratory", name := "asInt", desc := "(Z)I" } : Jvm.MethodName) "KrylovLaboratory", Jvm.Cond.methodLinkNest "KrylovLaboratory$Space" (62 : Nat) ({ cls := "KrylovLaboratory", name := "bounded", desc := "(JJ)J" } : Jvm.MethodName) "KrylovLaboratory", Jvm.Cond.castable "KrylovLaboratory$Space" "java/lang/Object", Jvm.Cond.castable "KrylovLaboratoryModel" "java/lang/Object", Jvm.Cond.fieldLinkNest "KrylovLaboratory$Scanner" (29 : Nat) "KrylovLaboratory" "buffer" "[B" "KrylovLaboratory", Jvm.Cond.declares ({ cls := "KrylovLaboratory$Scanner", name := "accept", desc := "(Ljava/lang/String;)Z" } : Jvm.MethodName), Jvm.Cond.declares ({ cls := "KrylovLaboratory$Scanner", name := "check", desc := "(ZI)V" } : Jvm.MethodName), Jvm.Cond.declares ({ cls := "KrylovLaboratory$Scanner", name := "number", desc := "(II)I" } : Jvm.MethodName), Jvm.Cond.declares ({ cls := "KrylovLaboratory$Scanner", name := "expectSign", desc := "(I)V" } : Jvm.MethodName), Jvm.Cond.declares ({ cls := "KrylovLaboratory$Scanner", name := "keyword", desc := "()Ljava/lang/String;" } : Jvm.MethodName), Jvm.Cond.declares ({ cls := "KrylovLaboratory$Scanner", name := "next", desc := "()V" } : Jvm.MethodName), Jvm.Cond.declares ({ cls := "KrylovLaboratory$Scanner", name := "isSign", desc := "(I)Z" } : Jvm.MethodName), Jvm.Cond.declares ({ cls := "KrylovLaboratory$Scanner", name := "relationSign", desc := "()I" } : Jvm.MethodName), Jvm.Cond.fieldLinkNest "KrylovLaboratory$LaboratoryParser" (95 : Nat) "KrylovLaboratory$State" "matrix" "LKrylovLaboratory$Matrix;" "KrylovLaboratory", Jvm.Cond.fieldLinkNest "KrylovLaboratory$LaboratoryParser" (108 : Nat) "KrylovLaboratory$State" "start" "[I" "KrylovLaboratory", Jvm.Cond.fieldLinkNest "KrylovLaboratory$LaboratoryParser" (114 : Nat) "KrylovLaboratory$State" "mode" "I" "KrylovLaboratory", Jvm.Cond.fieldLinkNest "KrylovLaboratory$LaboratoryParser" (118 : Nat) "KrylovLaboratory$State" "threshold" "I" "KrylovLaboratory", Jvm.Cond.fieldLinkNest "KrylovLaboratory$LaboratoryParser" (120 : Nat) "KrylovLaboratory$State" "tolerance" "I" "KrylovLaboratory", Jvm.Cond.methodLinkNest "KrylovLaboratory$LaboratoryParser" (58 : Nat) ({ cls := "KrylovLaboratory", name := "begun", desc := "(LKrylovLaboratory$State;)LKrylovLaboratory$State;" } : Jvm.MethodName) "KrylovLaboratory", Jvm.Cond.castable "KrylovLaboratory$LaboratoryParser" "java/lang/Object", Jvm.Cond.castable "KrylovLaboratory$TextError" "KrylovLaboratory$TextError", Jvm.Cond.castable "KrylovLaboratory$TextError" "java/lang/Object", Jvm.Cond.castable "KrylovLaboratory$Token" "java/lang/Object", Jvm.Cond.castable "[B" "java/lang/Cloneable", Jvm.Cond.castable "[B" "java/lang/Object", Jvm.Cond.castable "[I" "java/lang/Cloneable", Jvm.Cond.castable "[I" "java/lang/Object", Jvm.Cond.castable "[J" "java/lang/Cloneable", Jvm.Cond.castable "[J" "java/lang/Object", Jvm.Cond.castable "[Ljava/lang/Object;" "java/lang/Object", Jvm.Cond.castable "[Ljava/lang/String;" "java/lang/Object", Jvm.Cond.castable "[[J" "java/lang/Object", Jvm.Cond.castable "java/util/AbstractList$ListItr" "java/util/Iterator", Jvm.Cond.castable "java/util/AbstractList$ListItr" "java/lang/Object", Jvm.Cond.declares ({ cls := "java/util/Iterator", name := "hasNext", desc := "()Z" } : Jvm.MethodName), Jvm.Cond.declares ({ cls := "java/util/Iterator", name := "next", desc := "()Ljava/lang/Object;" } : Jvm.MethodName), Jvm.Cond.declares ({ cls := "java/util/Iterator", name := "remove", desc := "()V" } : Jvm.MethodName), Jvm.Cond.declares ({ cls := "jdk/internal/access/JavaLangAccess", name := "getUTF16Char", desc := "([BI)C" } : Jvm.MethodName), Jvm.Cond.privateMethod ({ cls := "java/lang/AbstractStringBuilder", name := "ensureCapacityInternal", desc := "(I)V" } : Jvm.MethodName), Jvm.Cond.privateMethod ({ cls := "java/lang/AbstractStringBuilder", name := "newCapacity", desc := "(I)I" } : Jvm.MethodName), Jvm.Cond.privateMethod ({ cls := "java/lang/AbstractStringBuilder", name := "putStringAt", desc := "(ILjava/lang/String;)V" } : Jvm.MethodName), Jvm.Cond.privateMethod ({ cls := "java/lang/AbstractStringBuilder", name := "inflateIfNeededFor", desc := "(Ljava/lang/String;)V" } : Jvm.MethodName), Jvm.Cond.privateMethod ({ cls := "KrylovLaboratory$Scanner", name := "byteAt", desc := "(I)I" } : Jvm.MethodName)]
def zI : List (String × MethodName × MethodName) := [("java/util/LinkedList$ListItr", ⟨"java/util/Iterator", "hasNext", "()Z"⟩, ⟨"java/util/LinkedList$ListItr", "hasNext", "()Z"⟩), ("java/util/LinkedList$ListItr", ⟨"java/util/Iterator", "next", "()Ljava/lang/Object;"⟩, ⟨"java/util/LinkedList$ListItr", "next", "()Ljava/lang/Object;"⟩), ("java/util/LinkedList$ListItr", ⟨"java/util/Iterator", "remove", "()V"⟩, ⟨"java/util/LinkedList$ListItr", "remove", "()V"⟩), ("java/util/ImmutableCollections$ListN", ⟨"java/util/List", "indexOf", "(Ljava/lang/Object;)I"⟩, ⟨"java/util/ImmutableCollections$ListN", "indexOf", "(Ljava/lang/Object;)I"⟩)]
def zA : List String := ["java/lang/Object", "java/lang/String"]
def zK : Nat := 4
def zM (cs : Nat → Nat) : List (String × Nat) := [("[Ljava/lang/Object;", cs 10)]
def zC : List (String × String) := [("java/lang/IllegalArgumentException", "java/util/NoSuchElementException")]
theorem va_Nw.warmP {x : MethodName} {s U : State} (hW : s.WarmedH U.vm) (hZ : va_Nw (.privateMethod x) s) : va_Nw (.privateMethod x) U := sorry
theorem zN_tab : ∀ w ∈ zN, w.onTables = true := sorry
theorem zN_warm : ∀ w ∈ zN, ∀ {s U : State}, s.WarmedH U.vm → va_Nw w s → va_Nw w U := sorry
theorem zI_ok : ∀ z ∈ zI, z.2.1.cls ≠ "java/lang/invoke/MethodHandle" ∧ z.2.1.cls ≠ "java/lang/invoke/VarHandle" := sorry
theorem zN_at {U : State} (h : ∀ w ∈ zN, va_Nw w U) (i : Nat) {w : Cond} (hi : zN[i]? = some w) : va_Nw w U := sorry
/-! WORLDS IN SEGMENTS: a world is a list of segments, each a list of cells; a segment of one cell is read and written by its place -/
abbrev GX : Type := va_G × (Nat → ClassId) × (Nat → Nat)
def wP (D : va_G) (cl : List vw_C) (S : List va_W) (H : Heap) : Prop := ∀ w ∈ S, ∀ q ∈ w, va_at D cl q H
def wD (A : Nat → Prop) (S : List va_W) : Prop := S.flatten.Pairwise (fun p q => p.1 ≠ q.1) ∧ ∀ w ∈ S, ∀ q ∈ w, A q.1
def wA (S : List va_W) (sz : Nat) : Nat → Prop := fun q => (∃ w ∈ S, ∃ e : va_E, (q, e) ∈ w) ∨ sz ≤ q
theorem wx_vaP {D : va_G} {cl : List vw_C} {S : List va_W} {H : Heap} : wP D cl S H ↔ va_P D cl S.flatten H := sorry
theorem wx_D {A : Nat → Prop} {ws : va_W} : va_D A ws ↔ ws.Pairwise (fun p q => p.1 ≠ q.1) ∧ ∀ q ∈ ws, A q.1 := sorry
theorem wx_vaD {A : Nat → Prop} {S : List va_W} : wD A S ↔ va_D A S.flatten := sorry
theorem wx_vaA {S : List va_W} {sz q : Nat} : wA S sz q ↔ va_A S.flatten sz q := sorry
theorem wP.seg {D : va_G} {cl : List vw_C} {S : List va_W} {H : Heap} (h : wP D cl S H) (i : Nat) {w : va_W} (hi : S[i]? = some w) : ∀ q ∈ w, va_at D cl q H := sorry
theorem wP.at {D : va_G} {cl : List vw_C} {S : List va_W} {H : Heap} (h : wP D cl S H) (i : Nat) {q : Nat × va_E} (hi : S[i]? = some [q]) : va_at D cl q H := sorry
theorem wx_one {D : va_G} {cl : List vw_C} {q : Nat × va_E} {H : Heap} (h : va_at D cl q H) : va_P D cl [q] H := sorry
theorem wx_idx : ∀ {S : List va_W} {i : Nat} {q : Nat × va_E}, S[i]? = some [q] → ∃ k, S.flatten[k]? = some q ∧ ∀ q', S.flatten.set k q' = (S.set i [q']).flatten := sorry
theorem wx_push {S : List va_W} {q : Nat × va_E} : S.flatten ++ [q] = (S ++ [[q]]).flatten := sorry
theorem wP.cast {D : va_G} {cl : List vw_C} {S S' : List va_W} {H : Heap} (h : wP D cl S H) (e : S.flatten = S'.flatten) : wP D cl S' H := sorry
theorem wD.cast {A : Nat → Prop} {S S' : List va_W} (h : wD A S) (e : S.flatten = S'.flatten) : wD A S' := sorry
theorem wA.cast {S S' : List va_W} {sz : Nat} (e : S.flatten = S'.flatten) : wA S sz = wA S' sz := sorry
/-- segments by their places -/
theorem wx_pick {S S' : List va_W} {is : List Nat} (hs : is.map (fun i => S[i]?) = S'.map some) {k : Nat} {w : va_W} (hk : S'[k]? = some w) : ∃ i, is[k]? = some i ∧ S[i]? = some w := sorry
theorem wx_pick_mem {S S' : List va_W} {is : List Nat} (hs : is.map (fun i => S[i]?) = S'.map some) {w : va_W} (hk : w ∈ S') : ∃ i, i ∈ is ∧ S[i]? = some w := sorry
theorem wP.sub {D : va_G} {cl : List vw_C} {S S' : List va_W} {H : Heap} (h : wP D cl S H) (is : List Nat) (hs : is.map (fun i => S[i]?) = S'.map some) : wP D cl S' H := sorry
theorem wx_far {A : Nat → Prop} {S : List va_W} (h : wD A S) {i j : Nat} {v w : va_W} (hi : S[i]? = some v) (hj : S[j]? = some w) (hij : i ≠ j) : ∀ p ∈ v, ∀ q ∈ w, p.1 ≠ q.1 := sorry
theorem wx_near {A : Nat → Prop} {S : List va_W} (h : wD A S) {w : va_W} (hw : w ∈ S) : w.Pairwise (fun p q => p.1 ≠ q.1) := sorry
theorem wx_mk {A : Nat → Prop} {S : List va_W} (h1 : ∀ w ∈ S, w.Pairwise (fun p q => p.1 ≠ q.1)) (h2 : ∀ (i j : Nat) (v w : va_W), S[i]? = some v → S[j]? = some w → i < j → ∀ p ∈ v, ∀ q ∈ w, p.1 ≠ q.1) (h3 : ∀ w ∈ S, ∀ q ∈ w, A q.1) : wD A S := sorry
theorem wD.sub {A : Nat → Prop} {S S' : List va_W} (h : wD A S) (is : List Nat) (hn : va_nd is = true) (hs : is.map (fun i => S[i]?) = S'.map some) : wD A S' := sorry
theorem wD.weaken {A B : Nat → Prop} {S : List va_W} (h : wD A S) (hAB : ∀ w ∈ S, ∀ q ∈ w, A q.1 → B q.1) : wD B S := sorry
theorem wD.self {S : List va_W} {sz : Nat} {A : Nat → Prop} (h : wD A S) : wD (wA S sz) S := sorry
theorem wD.any {S : List va_W} {A : Nat → Prop} (h : wD A S) : wD (fun _ => True) S := sorry
theorem wD.app {A : Nat → Prop} {S1 S2 : List va_W} (h1 : wD A S1) (h2 : wD A S2) (hx : ∀ v ∈ S1, ∀ w ∈ S2, ∀ p ∈ v, ∀ q ∈ w, p.1 ≠ q.1) : wD A (S1 ++ S2) := sorry
theorem wP.app {D : va_G} {cl : List vw_C} {S1 S2 : List va_W} {H : Heap} (h1 : wP D cl S1 H) (h2 : wP D cl S2 H) : wP D cl (S1 ++ S2) H := sorry
theorem wx_free {A0 : Nat → Prop} {S Sc : List va_W} {H0 H : Heap} {locs : List Loc} (hD : wD A0 S) (hS : va_S A0 H0 H locs) (hA : ∀ q, H0.size ≤ q → A0 q) {isC : List Nat} (hC : isC.map (fun i => S[i]?) = Sc.map some) : ∀ q, wA Sc H.size q → A0 q := sorry
/-- behind a call: the caller's other segments, and the callee's world -/
theorem wx_join {A0 : Nat → Prop} {D : va_G} {cl : List vw_C} {S Sc Sr S1 : List va_W} {H H1 : Heap} (hP : wP D cl S H) (hD : wD A0 S) {isC isR : List Nat} (hC : isC.map (fun i => S[i]?) = Sc.map some) (hR : isR.map (fun i => S[i]?) = Sr.map some) (hn : va_nd isR = true) (hdis : ∀ i ∈ isR, i ∉ isC)
    (hk : ∀ q : Nat, q < H.size → ¬ wA Sc H.size q → H1[q]? = H[q]?) (hF : ∀ q, wA Sc H.size q → A0 q) (hP1 : wP D cl S1 H1) (hD1 : wD (wA Sc H.size) S1) : wP D cl (Sr ++ S1) H1 ∧ wD A0 (Sr ++ S1) := sorry
end
section
/-! WHAT EVERY METHOD CARRIES: the classes, the array classes, the statics and constants (none of them ever changes), the tables' words of nest mates and casts -/
def TYs (dA : Nat → ClassId) : List (ClassId × FieldType) := [(dA 0, .int), (dA 1, .long), (dA 2, .byte), (dA 3, .object "java/lang/Object"), (dA 4, .array .long), (dA 5, .object "java/lang/String")]
def va_AL (U : State) : Prop := (Cond.arrayOver (.array .long)).before #[] U = true
theorem va_AL.moved {u U : State} (hvm : u.vm.Alike U.vm) (h : va_AL u) : va_AL U := sorry
def ZW (cs : Nat → Nat) (A : Nat → Prop) (U : State) (H : Heap) : Prop :=
  (∀ z ∈ zS cs, va_Z z.1 z.2.1 z.2.2.1 z.2.2.2 A U H) ∧ (∀ z ∈ zO cs, va_O z.1 z.2 A U H) ∧ (∀ z ∈ zF cs, va_OF z.1 z.2.1 z.2.2.1 z.2.2.2.1 z.2.2.2.2 A U H) ∧ (∀ z ∈ zT cs, va_T z.1 z.2.1 z.2.2.1 z.2.2.2 A U H) ∧
  (∀ z ∈ zQ, vx_Zq z.1 z.2.1 z.2.2 A U H) ∧ (∀ r ∈ zR cs, vk_R r.1 r.2.1 r.2.2.1 r.2.2.2 U) ∧ (∀ w ∈ zN, va_Nw w U) ∧ ((∀ z ∈ zI, va_Fw z.1 z.2.1 z.2.2 U) ∧ (∀ C ∈ zA, va_AO C U) ∧ va_AL U ∧ (∀ i j : Nat, i < zK → j < zK → cs i = cs j → i = j) ∧ (∀ z ∈ zM cs, va_Mi z.1 z.2 U) ∧ (∀ z ∈ zC, va_Nc z.1 z.2 U))
theorem ZW.kept {cs : Nat → Nat} {A : Nat → Prop} {U : State} {H H1 : Heap} (h : ZW cs A U H) (hq : ∀ a : Nat, a < H.size → ¬ A a → H1[a]? = H[a]?) : ZW cs A U H1 := sorry
theorem ZW.narrow {cs : Nat → Nat} {A B : Nat → Prop} {U : State} {H : Heap} (h : ZW cs A U H) (hAB : ∀ q, B q → A q) : ZW cs B U H := sorry
theorem ZW.same {cs : Nat → Nat} {A : Nat → Prop} {u U : State} {H : Heap} (hv : U.vm = u.vm) (h : ZW cs A u H) : ZW cs A U H := sorry
theorem ZW.warm {cs : Nat → Nat} {A : Nat → Prop} {s U : State} {H : Heap} (hW : s.WarmedH U.vm) (h : ZW cs A s H) : ZW cs A U H := sorry
def CX (G : GX) (A : Nat → Prop) (U : State) (H : Heap) : Prop := va_K G.1 vwCl (TYs G.2.1) U ∧ ZW G.2.2 A U H
theorem CX.same {G : GX} {A : Nat → Prop} {u U : State} {H : Heap} (hv : U.vm = u.vm) (h : CX G A u H) : CX G A U H := sorry
theorem CX.warm {G : GX} {A : Nat → Prop} {s U : State} {H : Heap} (hW : s.WarmedH U.vm) (h : CX G A s H) : CX G A U H := sorry
/-- a method's start: its world in segments, and nothing else -/
def wPre (G : GX) (S : List va_W) (sz : Nat) (U : State) : Prop := U.heap.size = sz ∧ wP G.1 vwCl S U.heap ∧ wD (fun _ => True) S ∧ CX G (wA S sz) U U.heap
/-- a method's end: its world behind it -/
def wPost {σ : Type} (G : GX) (A : Nat → Prop) (S1 : σ → List va_W) (u : σ) (t : State) : Prop := wP G.1 vwCl (S1 u) t.heap ∧ wD A (S1 u)
abbrev wQi {σ : Type} (G : GX) (S : List va_W) (sz : Nat) (post : Int32 → σ → Prop) (S1 : σ → List va_W) := va_Qi post (wPost G (wA S sz) S1) (wA S sz)
abbrev wQl {σ : Type} (G : GX) (S : List va_W) (sz : Nat) (post : Int64 → σ → Prop) (S1 : σ → List va_W) := va_Ql post (wPost G (wA S sz) S1) (wA S sz)
abbrev wQd {σ : Type} (G : GX) (S : List va_W) (sz : Nat) (post : UInt64 → σ → Prop) (S1 : σ → List va_W) := va_Qd post (wPost G (wA S sz) S1) (wA S sz)
abbrev wQv {σ : Type} (G : GX) (S : List va_W) (sz : Nat) (post : σ → Prop) (S1 : σ → List va_W) := va_Qv post (wPost G (wA S sz) S1) (wA S sz)
abbrev wQq {σ : Type} (G : GX) (S : List va_W) (sz : Nat) (post : Option Nat → σ → Prop) (S1 : σ → List va_W) := va_Qq post (wPost G (wA S sz) S1) (wA S sz)
theorem wx_blind {G : GX} {S : List va_W} {sz : Nat} {av : List Value} : FrameBlind (va_Pc av (wPre G S sz)) := sorry
section WC1
variable {s : State} {G : GX} {A0 : Nat → Prop} {S Sc : List va_W} {H : Heap} {locs : List Loc}
theorem wx_preS {As : List Value} (hC : CX G A0 s s.heap) (hS : va_S A0 s.heap H locs) (hP : wP G.1 vwCl S H) (hD : wD A0 S) (hA : ∀ q, s.heap.size ≤ q → A0 q) (isC : List Nat) (hn : va_nd isC = true) (hc : isC.map (fun i => S[i]?) = Sc.map some) : PreS s H (va_Pc As (wPre G Sc H.size)) As := sorry
theorem wx_recv {b ci : Nat} {q : vw_C} {fs : List Value} (hK : va_K G.1 vwCl (TYs G.2.1) s) (hq : va_at G.1 vwCl (b, .inr (ci, fs)) H) (hc : vwCl[ci]? = some q) : ∃ cellB : Cell, H[b]? = some cellB ∧ cellB.vm.isStatics = false ∧ s.vm.findClass q.1 = some cellB.cls := sorry
theorem wx_preV {As : List Value} {b ci : Nat} {q : vw_C} {fs : List Value} (hC : CX G A0 s s.heap) (hS : va_S A0 s.heap H locs) (hP : wP G.1 vwCl S H) (hD : wD A0 S) (hA : ∀ q, s.heap.size ≤ q → A0 q) (isC : List Nat) (hn : va_nd isC = true) (hc : isC.map (fun i => S[i]?) = Sc.map some) (hq : va_at G.1 vwCl (b, .inr (ci, fs)) H) (hcl : vwCl[ci]? = some q) : PreV s H q.1 b (va_Pc (.ref b :: As) (wPre G Sc H.size)) As := sorry
end WC1
section WC2
variable {p : Program} {l : Launch} {e : Env} {R : Room} {s : State} {m : MethodId} {args : Array Value} {below : List Frame} {meth : Method} {c : Code} {H : Heap} {locs : List Loc} {cells slots : Nat} {Q : State → Prop}
variable {pc : Nat} {ls : Array Slot} {rest st0 : List Value} {a : Array Value} {A0 : Nat → Prop} {mc ms : Nat} {G : GX} {S Sc Sr : List va_W}
theorem ww_ci {σ : Type} {post : Int32 → σ → Prop} {S1 : σ → List va_W} (hr : va_Run p l e R s m args below meth c H locs cells slots mc ms (F0 m pc ls st0) rest (wQi G Sc H.size post S1 a) (wA Sc H.size)) (hS : va_S A0 s.heap H locs) (hP : wP G.1 vwCl S H) (hD : wD A0 S) (hA : ∀ q, s.heap.size ≤ q → A0 q) {isC isR : List Nat} (hC : isC.map (fun i => S[i]?) = Sc.map some) (hR : isR.map (fun i => S[i]?) = Sr.map some) (hn : va_nd isR = true) (hd : ∀ i ∈ isR, i ∉ isC)
    (kk : ∀ (r : Int32) (u : σ) (H1 : Heap) (locs1 : List Loc), post r u → wP G.1 vwCl (Sr ++ S1 u) H1 → wD A0 (Sr ++ S1 u) → va_S A0 s.heap H1 locs1 → W p l e R s m args below meth c H1 locs1 (cells + mc) (slots + ms) Q (F0 m (pc + 3) ls (.int r :: rest))) : W p l e R s m args below meth c H locs cells slots Q (F0 m pc ls st0) := sorry
theorem ww_cl {σ : Type} {post : Int64 → σ → Prop} {S1 : σ → List va_W} (hr : va_Run p l e R s m args below meth c H locs cells slots mc ms (F0 m pc ls st0) rest (wQl G Sc H.size post S1 a) (wA Sc H.size)) (hS : va_S A0 s.heap H locs) (hP : wP G.1 vwCl S H) (hD : wD A0 S) (hA : ∀ q, s.heap.size ≤ q → A0 q) {isC isR : List Nat} (hC : isC.map (fun i => S[i]?) = Sc.map some) (hR : isR.map (fun i => S[i]?) = Sr.map some) (hn : va_nd isR = true) (hd : ∀ i ∈ isR, i ∉ isC)
    (kk : ∀ (r : Int64) (u : σ) (H1 : Heap) (locs1 : List Loc), post r u → wP G.1 vwCl (Sr ++ S1 u) H1 → wD A0 (Sr ++ S1 u) → va_S A0 s.heap H1 locs1 → W p l e R s m args below meth c H1 locs1 (cells + mc) (slots + ms) Q (F0 m (pc + 3) ls (.long r :: rest))) : W p l e R s m args below meth c H locs cells slots Q (F0 m pc ls st0) := sorry
theorem ww_cd {σ : Type} {post : UInt64 → σ → Prop} {S1 : σ → List va_W} (hr : va_Run p l e R s m args below meth c H locs cells slots mc ms (F0 m pc ls st0) rest (wQd G Sc H.size post S1 a) (wA Sc H.size)) (hS : va_S A0 s.heap H locs) (hP : wP G.1 vwCl S H) (hD : wD A0 S) (hA : ∀ q, s.heap.size ≤ q → A0 q) {isC isR : List Nat} (hC : isC.map (fun i => S[i]?) = Sc.map some) (hR : isR.map (fun i => S[i]?) = Sr.map some) (hn : va_nd isR = true) (hd : ∀ i ∈ isR, i ∉ isC)
    (kk : ∀ (r : UInt64) (u : σ) (H1 : Heap) (locs1 : List Loc), post r u → wP G.1 vwCl (Sr ++ S1 u) H1 → wD A0 (Sr ++ S1 u) → va_S A0 s.heap H1 locs1 → W p l e R s m args below meth c H1 locs1 (cells + mc) (slots + ms) Q (F0 m (pc + 3) ls (.double r :: rest))) : W p l e R s m args below meth c H locs cells slots Q (F0 m pc ls st0) := sorry
theorem ww_cv {σ : Type} {post : σ → Prop} {S1 : σ → List va_W} (hr : va_Run p l e R s m args below meth c H locs cells slots mc ms (F0 m pc ls st0) rest (wQv G Sc H.size post S1 a) (wA Sc H.size)) (hS : va_S A0 s.heap H locs) (hP : wP G.1 vwCl S H) (hD : wD A0 S) (hA : ∀ q, s.heap.size ≤ q → A0 q) {isC isR : List Nat} (hC : isC.map (fun i => S[i]?) = Sc.map some) (hR : isR.map (fun i => S[i]?) = Sr.map some) (hn : va_nd isR = true) (hd : ∀ i ∈ isR, i ∉ isC)
    (kk : ∀ (u : σ) (H1 : Heap) (locs1 : List Loc), post u → wP G.1 vwCl (Sr ++ S1 u) H1 → wD A0 (Sr ++ S1 u) → va_S A0 s.heap H1 locs1 → W p l e R s m args below meth c H1 locs1 (cells + mc) (slots + ms) Q (F0 m (pc + 3) ls rest)) : W p l e R s m args below meth c H locs cells slots Q (F0 m pc ls st0) := sorry
theorem ww_cq {σ : Type} {post : Option Nat → σ → Prop} {S1 : σ → List va_W} (hr : va_Run p l e R s m args below meth c H locs cells slots mc ms (F0 m pc ls st0) rest (wQq G Sc H.size post S1 a) (wA Sc H.size)) (hS : va_S A0 s.heap H locs) (hP : wP G.1 vwCl S H) (hD : wD A0 S) (hA : ∀ q, s.heap.size ≤ q → A0 q) {isC isR : List Nat} (hC : isC.map (fun i => S[i]?) = Sc.map some) (hR : isR.map (fun i => S[i]?) = Sr.map some) (hn : va_nd isR = true) (hd : ∀ i ∈ isR, i ∉ isC)
    (kk : ∀ (r : Option Nat) (u : σ) (H1 : Heap) (locs1 : List Loc), post r u → wP G.1 vwCl (Sr ++ S1 u) H1 → wD A0 (Sr ++ S1 u) → va_S A0 s.heap H1 locs1 → W p l e R s m args below meth c H1 locs1 (cells + mc) (slots + ms) Q (F0 m (pc + 3) ls (va_rf r :: rest))) : W p l e R s m args below meth c H locs cells slots Q (F0 m pc ls st0) := sorry
end WC2
/-! ROWS over worlds in segments -/
abbrev wI (G : GX) (n : Nat) (f : Nat → Int32) : va_E := .inl (G.2.1 0, n, .inl f)
abbrev wL (G : GX) (n : Nat) (f : Nat → Int64) : va_E := .inl (G.2.1 1, n, .inr (.inl f))
abbrev wB (G : GX) (n : Nat) (f : Nat → Int32) : va_E := .inl (G.2.1 2, n, .inl f)
abbrev wO (G : GX) (n : Nat) (f : Nat → Option Nat) : va_E := .inl (G.2.1 3, n, .inr (.inr (.inr (.inr f))))
abbrev wLL (G : GX) (n : Nat) (f : Nat → Option Nat) : va_E := .inl (G.2.1 4, n, .inr (.inr (.inr (.inr f))))
abbrev wSt (G : GX) (n : Nat) (f : Nat → Option Nat) : va_E := .inl (G.2.1 5, n, .inr (.inr (.inr (.inr f))))
abbrev wo (ci : Nat) (fs : List Value) : va_E := .inr (ci, fs)
abbrev wQi' {σ : Type} (G : GX) (post : Int32 → σ → Prop) (S1 : σ → List va_W) (A : Nat → Prop) := va_Qi post (wPost G A S1) A
abbrev wQl' {σ : Type} (G : GX) (post : Int64 → σ → Prop) (S1 : σ → List va_W) (A : Nat → Prop) := va_Ql post (wPost G A S1) A
abbrev wQd' {σ : Type} (G : GX) (post : UInt64 → σ → Prop) (S1 : σ → List va_W) (A : Nat → Prop) := va_Qd post (wPost G A S1) A
abbrev wQv' {σ : Type} (G : GX) (post : σ → Prop) (S1 : σ → List va_W) (A : Nat → Prop) := va_Qv post (wPost G A S1) A
abbrev wQq' {σ : Type} (G : GX) (post : Option Nat → σ → Prop) (S1 : σ → List va_W) (A : Nat → Prop) := va_Qq post (wPost G A S1) A
theorem wx_RA {U : State} {c1 c2 : ClassId} {ty : FieldType} (h1 : va_RA U c1 ty) (h2 : va_RA U c2 ty) : c1 = c2 := sorry
theorem wx_new {G : GX} {s : State} {cA : ClassId} {ty : FieldType} (k : Nat) {d : ClassId} (hk : (TYs G.2.1)[k]? = some (d, ty)) (h : va_K G.1 vwCl (TYs G.2.1 ++ [(cA, ty)]) s) : cA = d := sorry
section WR
variable {p : Program} {l : Launch} {e : Env} {R : Room} {s : State} {m : MethodId} {args : Array Value} {below : List Frame} {meth : Method} {c : Code} {H : Heap} {locs : List Loc} {cells slots : Nat} {Q : State → Prop}
variable {cc : ByteArray} {pc : Nat} {ls : Array Slot} {rest : List Value} {G : GX} {A : Nat → Prop} {a : Nat} {S : List va_W} {H0 : Heap}
theorem ww_topi {x y : Int32} (h : x = y) (k : W p l e R s m args below meth c H locs cells slots Q (F0 m pc ls (.int y :: rest))) : W p l e R s m args below meth c H locs cells slots Q (F0 m pc ls (.int x :: rest)) := sorry
theorem ww_topl {x y : Int64} (h : x = y) (k : W p l e R s m args below meth c H locs cells slots Q (F0 m pc ls (.long y :: rest))) : W p l e R s m args below meth c H locs cells slots Q (F0 m pc ls (.long x :: rest)) := sorry
theorem ww_topr {x y : Value} (h : x = y) (k : W p l e R s m args below meth c H locs cells slots Q (F0 m pc ls (y :: rest))) : W p l e R s m args below meth c H locs cells slots Q (F0 m pc ls (x :: rest)) := sorry
theorem ww_get (hexec : p.tables.exec = Jvm.exec) (hb : c.code = cc) {own ref C : String} {T : u_T} {N ci index : Nat} (hts : ∀ w ∈ lw_all, w.before args s = true) (hin : ∀ w ∈ u_ws C T N, w ∈ lw_all) (hown : s.vm.findClass own = some m.cls) (hK : va_K G.1 vwCl (TYs G.2.1) s) {fs : List Value} (hq : va_at G.1 vwCl (a, .inr (ci, fs)) H) (hc : vwCl[ci]? = some (C, T, N)) (k : Nat) (hk : k < N) (hlink : (Cond.fieldLink own index ref (T k).2.1 (T k).2.2.1).before args s = true) (hsame : ∀ x, s.fieldFound? (T k).1 (T k).2.1 (T k).2.2.1 = some x → s.fieldFound? ref (T k).2.1 (T k).2.2.1 = some x) {v : Value} (hv : fs[k]? = some v) (hdg : decode cc pc = .ok (.getfield index, 3)) (kk : W p l e R s m args below meth c H locs cells slots Q (F0 m (pc + 3) ls (v :: rest))) : W p l e R s m args below meth c H locs cells slots Q (F0 m pc ls (.ref a :: rest)) := sorry
theorem ww_getN (hexec : p.tables.exec = Jvm.exec) (hb : c.code = cc) {own ref C host : String} {T : u_T} {N ci index : Nat} (hts : ∀ w ∈ lw_all, w.before args s = true) (hin : ∀ w ∈ u_ws C T N, w ∈ lw_all) (hown : s.vm.findClass own = some m.cls) (hK : va_K G.1 vwCl (TYs G.2.1) s) {fs : List Value} (hq : va_at G.1 vwCl (a, .inr (ci, fs)) H) (hc : vwCl[ci]? = some (C, T, N)) (k : Nat) (hk : k < N) (hlink : va_Nw (Cond.fieldLinkNest own index ref (T k).2.1 (T k).2.2.1 host) s) (hsame : ∀ x, s.fieldFound? (T k).1 (T k).2.1 (T k).2.2.1 = some x → s.fieldFound? ref (T k).2.1 (T k).2.2.1 = some x) {v : Value} (hv : fs[k]? = some v) (hdg : decode cc pc = .ok (.getfield index, 3)) (kk : W p l e R s m args below meth c H locs cells slots Q (F0 m (pc + 3) ls (v :: rest))) : W p l e R s m args below meth c H locs cells slots Q (F0 m pc ls (.ref a :: rest)) := sorry
theorem ww_put (hexec : p.tables.exec = Jvm.exec) (hb : c.code = cc) {own ref C : String} {T : u_T} {N ci index : Nat} (hts : ∀ w ∈ lw_all, w.before args s = true) (hin : ∀ w ∈ u_ws C T N, w ∈ lw_all) (ty0 : Nat → FieldType) (hty : ∀ k, k < N → parseFieldDescriptor (T k).2.2.1 = some (ty0 k)) (hnm : ∀ a, a < N → ∀ b, b < N → a ≠ b → (T a).2.1 ≠ (T b).2.1) (hown : s.vm.findClass own = some m.cls) (hK : va_K G.1 vwCl (TYs G.2.1) s) (hP : wP G.1 vwCl S H) (hD : wD A S) (hS : va_S A H0 H locs) (i : Nat) {fs : List Value} (he : S[i]? = some [(a, .inr (ci, fs))]) (hc : vwCl[ci]? = some (C, T, N)) (k : Nat) (hk : k < N) (hlink : (Cond.fieldLink own index ref (T k).2.1 (T k).2.2.1).before args s = true) (hsame : ∀ x, s.fieldFound? (T k).1 (T k).2.1 (T k).2.2.1 = some x → s.fieldFound? ref (T k).2.1 (T k).2.2.1 = some x) (hfin : (T k).2.2.2 = false) {ty : FieldType} {v : Value} (hd : parseFieldDescriptor (T k).2.2.1 = some ty) (hn : narrow ty v = v) (hfit : fits ty v = true) (hl : k < fs.length) (hdg : decode cc pc = .ok (.putfield index, 3)) (kk : ∀ (H1 : Heap) (locs1 : List Loc), wP G.1 vwCl (S.set i [(a, .inr (ci, fs.set k v))]) H1 → wD A (S.set i [(a, .inr (ci, fs.set k v))]) → va_S A H0 H1 locs1 → W p l e R s m args below meth c H1 locs1 cells slots Q (F0 m (pc + 3) ls rest)) : W p l e R s m args below meth c H locs cells slots Q (F0 m pc ls (v :: .ref a :: rest)) := sorry
theorem ww_putN (hexec : p.tables.exec = Jvm.exec) (hb : c.code = cc) {own ref C host : String} {T : u_T} {N ci index : Nat} (hts : ∀ w ∈ lw_all, w.before args s = true) (hin : ∀ w ∈ u_ws C T N, w ∈ lw_all) (ty0 : Nat → FieldType) (hty : ∀ k, k < N → parseFieldDescriptor (T k).2.2.1 = some (ty0 k)) (hnm : ∀ a, a < N → ∀ b, b < N → a ≠ b → (T a).2.1 ≠ (T b).2.1) (hown : s.vm.findClass own = some m.cls) (hK : va_K G.1 vwCl (TYs G.2.1) s) (hP : wP G.1 vwCl S H) (hD : wD A S) (hS : va_S A H0 H locs) (i : Nat) {fs : List Value} (he : S[i]? = some [(a, .inr (ci, fs))]) (hc : vwCl[ci]? = some (C, T, N)) (k : Nat) (hk : k < N) (hlink : va_Nw (Cond.fieldLinkNest own index ref (T k).2.1 (T k).2.2.1 host) s) (hsame : ∀ x, s.fieldFound? (T k).1 (T k).2.1 (T k).2.2.1 = some x → s.fieldFound? ref (T k).2.1 (T k).2.2.1 = some x) (hfin : (T k).2.2.2 = false) {ty : FieldType} {v : Value} (hd : parseFieldDescriptor (T k).2.2.1 = some ty) (hn : narrow ty v = v) (hfit : fits ty v = true) (hl : k < fs.length) (hdg : decode cc pc = .ok (.putfield index, 3)) (kk : ∀ (H1 : Heap) (locs1 : List Loc), wP G.1 vwCl (S.set i [(a, .inr (ci, fs.set k v))]) H1 → wD A (S.set i [(a, .inr (ci, fs.set k v))]) → va_S A H0 H1 locs1 → W p l e R s m args below meth c H1 locs1 cells slots Q (F0 m (pc + 3) ls rest)) : W p l e R s m args below meth c H locs cells slots Q (F0 m pc ls (v :: .ref a :: rest)) := sorry
theorem ww_putF (hexec : p.tables.exec = Jvm.exec) (hb : c.code = cc) {own ref C : String} {T : u_T} {N ci index : Nat} (hts : ∀ w ∈ lw_all, w.before args s = true) (hin : ∀ w ∈ u_ws C T N, w ∈ lw_all) (ty0 : Nat → FieldType) (hty : ∀ k, k < N → parseFieldDescriptor (T k).2.2.1 = some (ty0 k)) (hnm : ∀ a, a < N → ∀ b, b < N → a ≠ b → (T a).2.1 ≠ (T b).2.1) (hown : s.vm.findClass own = some m.cls) (hK : va_K G.1 vwCl (TYs G.2.1) s) (hP : wP G.1 vwCl S H) (hD : wD A S) (hS : va_S A H0 H locs) (i : Nat) {fs : List Value} (he : S[i]? = some [(a, .inr (ci, fs))]) (hc : vwCl[ci]? = some (C, T, N)) (k : Nat) (hk : k < N) (hlink : (Cond.fieldLink own index ref (T k).2.1 (T k).2.2.1).before args s = true) (hsame : ∀ x, s.fieldFound? (T k).1 (T k).2.1 (T k).2.2.1 = some x → s.fieldFound? ref (T k).2.1 (T k).2.2.1 = some x) (hfin : (T k).2.2.2 = true) (hin2 : meth.name = "<init>") (hdecl : (T k).1 = own) {ty : FieldType} {v : Value} (hd : parseFieldDescriptor (T k).2.2.1 = some ty) (hn : narrow ty v = v) (hfit : fits ty v = true) (hl : k < fs.length) (hdg : decode cc pc = .ok (.putfield index, 3)) (kk : ∀ (H1 : Heap) (locs1 : List Loc), wP G.1 vwCl (S.set i [(a, .inr (ci, fs.set k v))]) H1 → wD A (S.set i [(a, .inr (ci, fs.set k v))]) → va_S A H0 H1 locs1 → W p l e R s m args below meth c H1 locs1 cells slots Q (F0 m (pc + 3) ls rest)) : W p l e R s m args below meth c H locs cells slots Q (F0 m pc ls (v :: .ref a :: rest)) := sorry
theorem ww_lald (hexec : p.tables.exec = Jvm.exec) (hb : c.code = cc) (hK : va_K G.1 vwCl (TYs G.2.1) s) {n : Nat} {f : Nat → Int64} (hq : va_at G.1 vwCl (a, wL G n f) H) {i : Int32} (j : Nat) (hi : i = nI j) (hj : j < n) (hn : n < 2 ^ 31) (hdg : decode cc pc = .ok (.laload, 1)) (kk : W p l e R s m args below meth c H locs cells slots Q (F0 m (pc + 1) ls (.long (f j) :: rest))) : W p l e R s m args below meth c H locs cells slots Q (F0 m pc ls (.int i :: .ref a :: rest)) := sorry
theorem ww_iald (hexec : p.tables.exec = Jvm.exec) (hb : c.code = cc) (hK : va_K G.1 vwCl (TYs G.2.1) s) {n : Nat} {f : Nat → Int32} (hq : va_at G.1 vwCl (a, wI G n f) H) {i : Int32} (j : Nat) (hi : i = nI j) (hj : j < n) (hn : n < 2 ^ 31) (hdg : decode cc pc = .ok (.iaload, 1)) (kk : W p l e R s m args below meth c H locs cells slots Q (F0 m (pc + 1) ls (.int (f j) :: rest))) : W p l e R s m args below meth c H locs cells slots Q (F0 m pc ls (.int i :: .ref a :: rest)) := sorry
theorem ww_bald (hexec : p.tables.exec = Jvm.exec) (hb : c.code = cc) (hK : va_K G.1 vwCl (TYs G.2.1) s) {n : Nat} {f : Nat → Int32} (hq : va_at G.1 vwCl (a, wB G n f) H) {i : Int32} (j : Nat) (hi : i = nI j) (hj : j < n) (hn : n < 2 ^ 31) (hdg : decode cc pc = .ok (.baload, 1)) (kk : W p l e R s m args below meth c H locs cells slots Q (F0 m (pc + 1) ls (.int (f j) :: rest))) : W p l e R s m args below meth c H locs cells slots Q (F0 m pc ls (.int i :: .ref a :: rest)) := sorry
theorem ww_oald (hexec : p.tables.exec = Jvm.exec) (hb : c.code = cc) (hK : va_K G.1 vwCl (TYs G.2.1) s) {n : Nat} {f : Nat → Option Nat} (hq : va_at G.1 vwCl (a, wO G n f) H) {i : Int32} (j : Nat) (hi : i = nI j) (hj : j < n) (hn : n < 2 ^ 31) (hdg : decode cc pc = .ok (.aaload, 1)) (kk : W p l e R s m args below meth c H locs cells slots Q (F0 m (pc + 1) ls (va_rf (f j) :: rest))) : W p l e R s m args below meth c H locs cells slots Q (F0 m pc ls (.int i :: .ref a :: rest)) := sorry
theorem ww_last (hexec : p.tables.exec = Jvm.exec) (hb : c.code = cc) (hK : va_K G.1 vwCl (TYs G.2.1) s) (hP : wP G.1 vwCl S H) (hD : wD A S) (hS : va_S A H0 H locs) (q : Nat) {n : Nat} {f : Nat → Int64} (he : S[q]? = some [(a, wL G n f)]) {i : Int32} {x : Int64} (j : Nat) (hi : i = nI j) (hj : j < n) (hn : n < 2 ^ 31) (hdg : decode cc pc = .ok (.lastore, 1)) (kk : ∀ (H1 : Heap) (locs1 : List Loc), wP G.1 vwCl (S.set q [(a, wL G n (vp_updL f j x))]) H1 → wD A (S.set q [(a, wL G n (vp_updL f j x))]) → va_S A H0 H1 locs1 → W p l e R s m args below meth c H1 locs1 cells slots Q (F0 m (pc + 1) ls rest)) : W p l e R s m args below meth c H locs cells slots Q (F0 m pc ls (.long x :: .int i :: .ref a :: rest)) := sorry
theorem ww_iast (hexec : p.tables.exec = Jvm.exec) (hb : c.code = cc) (hK : va_K G.1 vwCl (TYs G.2.1) s) (hP : wP G.1 vwCl S H) (hD : wD A S) (hS : va_S A H0 H locs) (q : Nat) {n : Nat} {f : Nat → Int32} (he : S[q]? = some [(a, wI G n f)]) {i : Int32} {x : Int32} (j : Nat) (hi : i = nI j) (hj : j < n) (hn : n < 2 ^ 31) (hdg : decode cc pc = .ok (.iastore, 1)) (kk : ∀ (H1 : Heap) (locs1 : List Loc), wP G.1 vwCl (S.set q [(a, wI G n (upd f j x))]) H1 → wD A (S.set q [(a, wI G n (upd f j x))]) → va_S A H0 H1 locs1 → W p l e R s m args below meth c H1 locs1 cells slots Q (F0 m (pc + 1) ls rest)) : W p l e R s m args below meth c H locs cells slots Q (F0 m pc ls (.int x :: .int i :: .ref a :: rest)) := sorry
theorem ww_bast (hexec : p.tables.exec = Jvm.exec) (hb : c.code = cc) (hK : va_K G.1 vwCl (TYs G.2.1) s) (hP : wP G.1 vwCl S H) (hD : wD A S) (hS : va_S A H0 H locs) (q : Nat) {n : Nat} {f : Nat → Int32} (he : S[q]? = some [(a, wB G n f)]) {i : Int32} {x : Int32} (j : Nat) (hi : i = nI j) (hj : j < n) (hn : n < 2 ^ 31) (hdg : decode cc pc = .ok (.bastore, 1)) (kk : ∀ (H1 : Heap) (locs1 : List Loc), wP G.1 vwCl (S.set q [(a, wB G n (upd f j (vp_nar .byte x)))]) H1 → wD A (S.set q [(a, wB G n (upd f j (vp_nar .byte x)))]) → va_S A H0 H1 locs1 → W p l e R s m args below meth c H1 locs1 cells slots Q (F0 m (pc + 1) ls rest)) : W p l e R s m args below meth c H locs cells slots Q (F0 m pc ls (.int x :: .int i :: .ref a :: rest)) := sorry
theorem ww_alen (hexec : p.tables.exec = Jvm.exec) (hb : c.code = cc) (hK : va_K G.1 vwCl (TYs G.2.1) s) {cA : ClassId} {x : vp_A} (hq : va_at G.1 vwCl (a, .inl (cA, x)) H) (t0 : Nat) {ty : FieldType} (ht : (TYs G.2.1)[t0]? = some (cA, ty)) (hdg : decode cc pc = .ok (.arraylength, 1)) (kk : W p l e R s m args below meth c H locs cells slots Q (F0 m (pc + 1) ls (.int (nI x.1) :: rest))) : W p l e R s m args below meth c H locs cells slots Q (F0 m pc ls (.ref a :: rest)) := sorry
theorem ww_newl (hexec : p.tables.exec = Jvm.exec) (hb : c.code = cc) (hts : ∀ w ∈ lw_all, w.before args s = true) (harr : Cond.arrayClass .long ∈ lw_all) (hK : va_K G.1 vwCl (TYs G.2.1) s) (hP : wP G.1 vwCl S H) (hD : wD A S) (hS : va_S A H0 H locs) (hA : ∀ q, H0.size ≤ q → A q) {n : Int32} (N : Nat) (hn : n = nI N) (hN : N ≤ 67108864) (hcells : cells + 1 ≤ R.cells) (hslots : slots + N ≤ R.slots) (hdg : decode cc pc = .ok (.newarray .long, 2)) (kk : ∀ (q : Nat) (H1 : Heap), wP G.1 vwCl (S ++ [[(q, wL G N (fun _ => 0))]]) H1 → wD A (S ++ [[(q, wL G N (fun _ => 0))]]) → va_S A H0 H1 locs → W p l e R s m args below meth c H1 locs (cells + 1) (slots + N) Q (F0 m (pc + 2) ls (.ref q :: rest))) : W p l e R s m args below meth c H locs cells slots Q (F0 m pc ls (.int n :: rest)) := sorry
theorem ww_newi (hexec : p.tables.exec = Jvm.exec) (hb : c.code = cc) (hts : ∀ w ∈ lw_all, w.before args s = true) (harr : Cond.arrayClass .int ∈ lw_all) (hK : va_K G.1 vwCl (TYs G.2.1) s) (hP : wP G.1 vwCl S H) (hD : wD A S) (hS : va_S A H0 H locs) (hA : ∀ q, H0.size ≤ q → A q) {n : Int32} (N : Nat) (hn : n = nI N) (hN : N ≤ 67108864) (hcells : cells + 1 ≤ R.cells) (hslots : slots + N ≤ R.slots) (hdg : decode cc pc = .ok (.newarray .int, 2)) (kk : ∀ (q : Nat) (H1 : Heap), wP G.1 vwCl (S ++ [[(q, wI G N (fun _ => 0))]]) H1 → wD A (S ++ [[(q, wI G N (fun _ => 0))]]) → va_S A H0 H1 locs → W p l e R s m args below meth c H1 locs (cells + 1) (slots + N) Q (F0 m (pc + 2) ls (.ref q :: rest))) : W p l e R s m args below meth c H locs cells slots Q (F0 m pc ls (.int n :: rest)) := sorry
theorem ww_newb (hexec : p.tables.exec = Jvm.exec) (hb : c.code = cc) (hts : ∀ w ∈ lw_all, w.before args s = true) (harr : Cond.arrayClass .byte ∈ lw_all) (hK : va_K G.1 vwCl (TYs G.2.1) s) (hP : wP G.1 vwCl S H) (hD : wD A S) (hS : va_S A H0 H locs) (hA : ∀ q, H0.size ≤ q → A q) {n : Int32} (N : Nat) (hn : n = nI N) (hN : N ≤ 67108864) (hcells : cells + 1 ≤ R.cells) (hslots : slots + N ≤ R.slots) (hdg : decode cc pc = .ok (.newarray .byte, 2)) (kk : ∀ (q : Nat) (H1 : Heap), wP G.1 vwCl (S ++ [[(q, wB G N (fun _ => 0))]]) H1 → wD A (S ++ [[(q, wB G N (fun _ => 0))]]) → va_S A H0 H1 locs → W p l e R s m args below meth c H1 locs (cells + 1) (slots + N) Q (F0 m (pc + 2) ls (.ref q :: rest))) : W p l e R s m args below meth c H locs cells slots Q (F0 m pc ls (.int n :: rest)) := sorry
theorem ww_new (hexec : p.tables.exec = Jvm.exec) (hb : c.code = cc) {own C : String} {T : u_T} {N ci index : Nat} (hts : ∀ w ∈ lw_all, w.before args s = true) (hin : ∀ w ∈ u_ws C T N, w ∈ lw_all) (ty : Nat → FieldType) (hty : ∀ k, k < N → parseFieldDescriptor (T k).2.2.1 = some (ty k)) (hown : s.vm.findClass own = some m.cls) (hcl : (Cond.classLink own index C).before args s = true) (hinst : (Cond.instantiable C N).before args s = true) (hini : (Cond.initialized C).before args s = true) (hK : va_K G.1 vwCl (TYs G.2.1) s) (hP : wP G.1 vwCl S H) (hD : wD A S) (hS : va_S A H0 H locs) (hA : ∀ q, H0.size ≤ q → A q) (hc : vwCl[ci]? = some (C, T, N)) {fs : List Value} (hfs : ∀ j, j < N → defaultValue (ty j) = vp_V fs j) (hcells : cells + 1 ≤ R.cells) (hslots : slots + N ≤ R.slots) (hdg : decode cc pc = .ok (.new index, 3)) (kk : ∀ (q : Nat) (H1 : Heap), wP G.1 vwCl (S ++ [[(q, .inr (ci, fs))]]) H1 → wD A (S ++ [[(q, .inr (ci, fs))]]) → va_S A H0 H1 locs → W p l e R s m args below meth c H1 locs (cells + 1) (slots + N) Q (F0 m (pc + 3) ls (.ref q :: rest))) : W p l e R s m args below meth c H locs cells slots Q (F0 m pc ls rest) := sorry
theorem ww_llt (hexec : p.tables.exec = Jvm.exec) (hb : c.code = cc) {x y : Int64} {off : Int} {tgt : Nat} (h1 : decode cc pc = .ok (.lcmp, 1)) (h2 : decode cc (pc + 1) = .ok (.ifCond .lt off, 3)) (ht : ((pc + 1 : Nat) : Int) + off = (tgt : Int)) (kt : x < y → W p l e R s m args below meth c H locs cells slots Q (F0 m tgt ls rest)) (kf : ¬ x < y → W p l e R s m args below meth c H locs cells slots Q (F0 m (pc + 4) ls rest)) : W p l e R s m args below meth c H locs cells slots Q (F0 m pc ls (.long y :: .long x :: rest)) := sorry
theorem ww_lge (hexec : p.tables.exec = Jvm.exec) (hb : c.code = cc) {x y : Int64} {off : Int} {tgt : Nat} (h1 : decode cc pc = .ok (.lcmp, 1)) (h2 : decode cc (pc + 1) = .ok (.ifCond .ge off, 3)) (ht : ((pc + 1 : Nat) : Int) + off = (tgt : Int)) (kt : y ≤ x → W p l e R s m args below meth c H locs cells slots Q (F0 m tgt ls rest)) (kf : ¬ y ≤ x → W p l e R s m args below meth c H locs cells slots Q (F0 m (pc + 4) ls rest)) : W p l e R s m args below meth c H locs cells slots Q (F0 m pc ls (.long y :: .long x :: rest)) := sorry
theorem ww_lgt (hexec : p.tables.exec = Jvm.exec) (hb : c.code = cc) {x y : Int64} {off : Int} {tgt : Nat} (h1 : decode cc pc = .ok (.lcmp, 1)) (h2 : decode cc (pc + 1) = .ok (.ifCond .gt off, 3)) (ht : ((pc + 1 : Nat) : Int) + off = (tgt : Int)) (kt : y < x → W p l e R s m args below meth c H locs cells slots Q (F0 m tgt ls rest)) (kf : ¬ y < x → W p l e R s m args below meth c H locs cells slots Q (F0 m (pc + 4) ls rest)) : W p l e R s m args below meth c H locs cells slots Q (F0 m pc ls (.long y :: .long x :: rest)) := sorry
theorem ww_lle (hexec : p.tables.exec = Jvm.exec) (hb : c.code = cc) {x y : Int64} {off : Int} {tgt : Nat} (h1 : decode cc pc = .ok (.lcmp, 1)) (h2 : decode cc (pc + 1) = .ok (.ifCond .le off, 3)) (ht : ((pc + 1 : Nat) : Int) + off = (tgt : Int)) (kt : x ≤ y → W p l e R s m args below meth c H locs cells slots Q (F0 m tgt ls rest)) (kf : ¬ x ≤ y → W p l e R s m args below meth c H locs cells slots Q (F0 m (pc + 4) ls rest)) : W p l e R s m args below meth c H locs cells slots Q (F0 m pc ls (.long y :: .long x :: rest)) := sorry
theorem ww_leq (hexec : p.tables.exec = Jvm.exec) (hb : c.code = cc) {x y : Int64} {off : Int} {tgt : Nat} (h1 : decode cc pc = .ok (.lcmp, 1)) (h2 : decode cc (pc + 1) = .ok (.ifCond .eq off, 3)) (ht : ((pc + 1 : Nat) : Int) + off = (tgt : Int)) (kt : x = y → W p l e R s m args below meth c H locs cells slots Q (F0 m tgt ls rest)) (kf : ¬ x = y → W p l e R s m args below meth c H locs cells slots Q (F0 m (pc + 4) ls rest)) : W p l e R s m args below meth c H locs cells slots Q (F0 m pc ls (.long y :: .long x :: rest)) := sorry
theorem ww_lne (hexec : p.tables.exec = Jvm.exec) (hb : c.code = cc) {x y : Int64} {off : Int} {tgt : Nat} (h1 : decode cc pc = .ok (.lcmp, 1)) (h2 : decode cc (pc + 1) = .ok (.ifCond .ne off, 3)) (ht : ((pc + 1 : Nat) : Int) + off = (tgt : Int)) (kt : ¬ x = y → W p l e R s m args below meth c H locs cells slots Q (F0 m tgt ls rest)) (kf : x = y → W p l e R s m args below meth c H locs cells slots Q (F0 m (pc + 4) ls rest)) : W p l e R s m args below meth c H locs cells slots Q (F0 m pc ls (.long y :: .long x :: rest)) := sorry
theorem ww_iret {σ : Type} {post : Int32 → σ → Prop} {S1 : σ → List va_W} {v : Int32} {mc ms : Nat} (u : σ) (hexec : p.tables.exec = Jvm.exec) (hb : c.code = cc) (hr : meth.sig.returnType = some .int) (hlocks : meth.locks = false) (hP : wP G.1 vwCl (S1 u) H) (hD : wD A (S1 u)) (hS : va_S A s.heap H locs) (h1 : cells ≤ mc) (h2 : slots ≤ ms) (hdg : decode cc pc = .ok (.ireturn, 1)) (hp : post v u) : W p l e R s m args below meth c H locs cells slots (MQ below (wQi' G post S1 A) args s mc ms A) (F0 m pc ls [.int v]) := sorry
theorem ww_zret {σ : Type} {post : Int32 → σ → Prop} {S1 : σ → List va_W} {v : Int32} {mc ms : Nat} (u : σ) (hexec : p.tables.exec = Jvm.exec) (hb : c.code = cc) (hr : meth.sig.returnType = some .boolean) (hlocks : meth.locks = false) (hP : wP G.1 vwCl (S1 u) H) (hD : wD A (S1 u)) (hS : va_S A s.heap H locs) (h1 : cells ≤ mc) (h2 : slots ≤ ms) (hdg : decode cc pc = .ok (.ireturn, 1)) (hv : narrow .boolean (.int v) = .int v) (hp : post v u) : W p l e R s m args below meth c H locs cells slots (MQ below (wQi' G post S1 A) args s mc ms A) (F0 m pc ls [.int v]) := sorry
theorem ww_lret {σ : Type} {post : Int64 → σ → Prop} {S1 : σ → List va_W} {v : Int64} {mc ms : Nat} (u : σ) (hexec : p.tables.exec = Jvm.exec) (hb : c.code = cc) (hr : meth.sig.returnType = some .long) (hlocks : meth.locks = false) (hP : wP G.1 vwCl (S1 u) H) (hD : wD A (S1 u)) (hS : va_S A s.heap H locs) (h1 : cells ≤ mc) (h2 : slots ≤ ms) (hdg : decode cc pc = .ok (.lreturn, 1)) (hp : post v u) : W p l e R s m args below meth c H locs cells slots (MQ below (wQl' G post S1 A) args s mc ms A) (F0 m pc ls [.long v]) := sorry
theorem ww_vret {σ : Type} {post : σ → Prop} {S1 : σ → List va_W} {mc ms : Nat} (u : σ) (hexec : p.tables.exec = Jvm.exec) (hb : c.code = cc) (hr : meth.sig.returnType = none) (hlocks : meth.locks = false) (hP : wP G.1 vwCl (S1 u) H) (hD : wD A (S1 u)) (hS : va_S A s.heap H locs) (h1 : cells ≤ mc) (h2 : slots ≤ ms) (hdg : decode cc pc = .ok (.return_, 1)) (hp : post u) : W p l e R s m args below meth c H locs cells slots (MQ below (wQv' G post S1 A) args s mc ms A) (F0 m pc ls []) := sorry
theorem ww_qret {σ : Type} {post : Option Nat → σ → Prop} {S1 : σ → List va_W} {v : Option Nat} {mc ms : Nat} {rt : FieldType} (u : σ) (hexec : p.tables.exec = Jvm.exec) (hb : c.code = cc) (hr : meth.sig.returnType = some rt) (hrt : (∃ n, rt = .object n) ∨ ∃ t, rt = .array t) (hlocks : meth.locks = false) (hP : wP G.1 vwCl (S1 u) H) (hD : wD A (S1 u)) (hS : va_S A s.heap H locs) (h1 : cells ≤ mc) (h2 : slots ≤ ms) (hdg : decode cc pc = .ok (.areturn, 1)) (hp : post v u) : W p l e R s m args below meth c H locs cells slots (MQ below (wQq' G post S1 A) args s mc ms A) (F0 m pc ls [va_rf v]) := sorry
end WR
/-- a method's walk begins -/
theorem ww_start {l : Launch} {y : MethodName} {rm : Room} {cc : ByteArray} {maxL : Nat} {ret : Option FieldType} {G : GX} {av : List Value} {S : List va_W} {sz mc ms : Nat} {Qf : (Nat → Prop) → Array Value → State → Outcome → State → Prop} (hy : plainName y.cls = true) (hlen : (lg_sl av).length ≤ maxL)
    (body : ∀ (p : Program) (e : Env) (s : State) (m : MethodId) (below : List Frame) (meth : Method) (c : Code) (A : Nat → Prop) (ls : Array Slot), p.tables.exec = Jvm.exec → c.code = cc → meth.sig.returnType = ret → meth.locks = false → (∀ w ∈ lw_all, w.before av.toArray s = true) → s.vm.findClass y.cls = some m.cls → c.maxLocals = maxL → meth.name = y.name → (∀ q, s.heap.size ≤ q → A q) → wP G.1 vwCl S s.heap → wD A S → va_S A s.heap s.heap [] → CX G A s s.heap → lv_has ls maxL (lv_args 0 av) →
      W p l e rm s m av.toArray below meth c s.heap [] 0 0 (MQ below (Qf A) av.toArray s mc ms A) (F0 m 0 ls [])) : Met l y (ws_ y cc maxL ret) rm (va_Pc av (wPre G S sz)) (Qf (wA S sz)) mc ms (wA S sz) := sorry
end
section
/-! SPEC 1: arithmetic of fixed numbers, over arrays of long as functions -/
abbrev mo (ad : Nat → Nat) (lb : Nat) (g : Nat → Int32) : List Value := [.ref (ad 0), .ref (ad 1), .ref (ad 2), .ref (ad 3), .ref (ad 4), .int (g 0), .int (g 1), .int (g 2), .ref lb, .ref (ad 5), .ref (ad 6), .ref (ad 7), .ref (ad 8), .ref (ad 9), .ref (ad 10), .int (g 3), .ref (ad 11), .int (g 4), .int (g 5), .int (g 6), .int (g 7), .int (g 8), .int (g 9), .int (g 10), .int (g 11), .int (g 12), .ref (ad 12), .ref (ad 13), .ref (ad 14), .int (g 13)]
theorem i_add {a b : Int64} (h1 : -9223372036854775808 ≤ a.toInt + b.toInt) (h2 : a.toInt + b.toInt < 9223372036854775808) : (a + b).toInt = a.toInt + b.toInt := sorry
theorem i_sub {a b : Int64} (h1 : -9223372036854775808 ≤ a.toInt - b.toInt) (h2 : a.toInt - b.toInt < 9223372036854775808) : (a - b).toInt = a.toInt - b.toInt := sorry
theorem i_mul {a b : Int64} (h1 : -9223372036854775808 ≤ a.toInt * b.toInt) (h2 : a.toInt * b.toInt < 9223372036854775808) : (a * b).toInt = a.toInt * b.toInt := sorry
theorem i_div {a b : Int64} (h1 : 0 ≤ a.toInt) (h2 : 0 < b.toInt) : (a / b).toInt = a.toInt / b.toInt := sorry
theorem i_1 : (1 : Int64).toInt = 1 := sorry
theorem i_2 : (2 : Int64).toInt = 2 := sorry
theorem i_0 : (0 : Int64).toInt = 0 := sorry
def fD (a b : Int64) : Int64 := if a / b * b = a then a / b else if (0 ≤ a ↔ 0 ≤ b) then a / b else a / b - 1
theorem fD_1 {a b : Int64} (h : a / b * b = a) : a / b = fD a b := sorry
theorem fD_2 {a b : Int64} (h : ¬ a / b * b = a) (h1 : 0 ≤ a) (h2 : 0 ≤ b) : a / b = fD a b := sorry
theorem fD_3 {a b : Int64} (h : ¬ a / b * b = a) (h1 : ¬ 0 ≤ a) (h2 : ¬ 0 ≤ b) : a / b = fD a b := sorry
theorem fD_4 {a b : Int64} (h : ¬ a / b * b = a) (h1 : 0 ≤ a) (h2 : ¬ 0 ≤ b) : a / b - 1 = fD a b := sorry
theorem fD_5 {a b : Int64} (h : ¬ a / b * b = a) (h1 : ¬ 0 ≤ a) (h2 : 0 ≤ b) : a / b - 1 = fD a b := sorry
/-- the sum of the first n -/
def sSum (f : Nat → Int64) : Nat → Int64
  | 0 => 0
  | n + 1 => sSum f n + f n
theorem sSum_congr {f g : Nat → Int64} {n : Nat} (h : ∀ k, k < n → f k = g k) : sSum f n = sSum g n := sorry
def sDot (n : Nat) (u v : Nat → Int64) : Int64 := fD (sSum (fun k => u k * v k) n) 1000000
/-- the greatest number whose square is at most one, found between 0 and hi: as the model does it, as the class does it -/
def mRoot (x : Int64) : Nat → Int64 → Int64 → Int64
  | 0, lo, _ => lo
  | n + 1, lo, hi => if lo < hi then (if (lo + hi + 1) / 2 * ((lo + hi + 1) / 2) ≤ x then mRoot x n ((lo + hi + 1) / 2) hi else mRoot x n lo ((lo + hi + 1) / 2 - 1)) else lo
def rootM (x : Int64) : Int64 := mRoot x 3000000001 0 3000000000
def cRoot (x : Int64) : Nat → Int64 → Int64 → Int64
  | 0, lo, _ => lo
  | n + 1, lo, hi => if lo < hi then (if (lo + (hi - lo + 1) / 2) * (lo + (hi - lo + 1) / 2) ≤ x then cRoot x n (lo + (hi - lo + 1) / 2) hi else cRoot x n lo (lo + (hi - lo + 1) / 2 - 1)) else lo
def rootC (x : Int64) : Int64 := cRoot x 3037000500 0 3037000499
theorem mRoot_mid {lo hi : Int64} (h : ¬ hi ≤ lo) (h1 : 0 ≤ lo.toInt) (h2 : hi.toInt ≤ 4611686018427387903) : lo.toInt < ((lo + hi + 1) / 2).toInt ∧ ((lo + hi + 1) / 2).toInt ≤ hi.toInt ∧ ((lo + hi + 1) / 2 - 1).toInt = ((lo + hi + 1) / 2).toInt - 1 := sorry
theorem mRoot_1 {x lo hi r : Int64} {n : Nat} (hv : mRoot x (n + 1) lo hi = r) (h : ¬ hi ≤ lo) (h2 : (lo + hi + 1) / 2 * ((lo + hi + 1) / 2) ≤ x) : mRoot x n ((lo + hi + 1) / 2) hi = r := sorry
theorem mRoot_2 {x lo hi r : Int64} {n : Nat} (hv : mRoot x (n + 1) lo hi = r) (h : ¬ hi ≤ lo) (h2 : x < (lo + hi + 1) / 2 * ((lo + hi + 1) / 2)) : mRoot x n lo ((lo + hi + 1) / 2 - 1) = r := sorry
theorem mRoot_3 {x lo hi r : Int64} {n : Nat} (hv : mRoot x (n + 1) lo hi = r) (h : hi ≤ lo) : lo = r := sorry
def sNorm (R : Int64 → Int64) (n : Nat) (u : Nat → Int64) : Int64 := R (sSum (fun k => u k * u k) n)
/-- v, whose first n are those of f by g -/
def sMap (n : Nat) (f v : Nat → Int64) : Nat → Int64 := fun k => if k < n then f k else v k
theorem sMap_0 {f v : Nat → Int64} : sMap 0 f v = v := sorry
theorem sMap_s {n : Nat} {f v : Nat → Int64} {x : Int64} (h : x = f n) : vp_updL (sMap n f v) n x = sMap (n + 1) f v := sorry
theorem sMap_at {n k : Nat} {f v : Nat → Int64} (h : n ≤ k) : sMap n f v k = v k := sorry
theorem sMap_in {n k : Nat} {f v : Nat → Int64} (h : k < n) : sMap n f v k = f k := sorry
theorem sMap_self {n : Nat} {u : Nat → Int64} : sMap n u u = u := sorry
theorem sMap_congr {n : Nat} {f g u : Nat → Int64} (h : ∀ k, k < n → f k = g k) : sMap n f u = sMap n g u := sorry
theorem sMap_map {n : Nat} {f g u : Nat → Int64} : sMap n f (sMap n g u) = sMap n f u := sorry
/-- where a vector stands in a row -/
abbrev sAt (f : Nat → Int64) (a : Nat) : Nat → Int64 := fun k => f (a + k)
/-- vectors, of which the first n count -/
def vTake (m : Int64) (u v : Nat → Int64) : Nat → Int64 := fun k => u k - fD (m * v k) 1000000
def vRemove (n : Nat) (u v : Nat → Int64) : Nat → Int64 := vTake (sDot n u v) u v
def vUnit (R : Int64 → Int64) (n : Nat) (u : Nat → Int64) : Nat → Int64 := fun k => if 0 < sNorm R n u then fD (u k * 1000000) (sNorm R n u) else u k
def vMul (n : Nat) (f v : Nat → Int64) : Nat → Int64 := fun r => sSum (fun c => f (18 + 6 * r + c) * v c) n
theorem sDot_congr {n : Nat} {u u' v v' : Nat → Int64} (h : ∀ k, k < n → u k = u' k) (h2 : ∀ k, k < n → v k = v' k) : sDot n u v = sDot n u' v' := sorry
theorem sNorm_congr {R : Int64 → Int64} {n : Nat} {u u' : Nat → Int64} (h : ∀ k, k < n → u k = u' k) : sNorm R n u = sNorm R n u' := sorry
theorem vTake_congr {n : Nat} {m : Int64} {u u' v v' : Nat → Int64} (h : ∀ k, k < n → u k = u' k) (h2 : ∀ k, k < n → v k = v' k) : ∀ k, k < n → vTake m u v k = vTake m u' v' k := sorry
theorem vRemove_congr {n : Nat} {u u' v v' : Nat → Int64} (h : ∀ k, k < n → u k = u' k) (h2 : ∀ k, k < n → v k = v' k) : ∀ k, k < n → vRemove n u v k = vRemove n u' v' k := sorry
theorem vUnit_congr {R : Int64 → Int64} {n : Nat} {u u' : Nat → Int64} (h : ∀ k, k < n → u k = u' k) : ∀ k, k < n → vUnit R n u k = vUnit R n u' k := sorry
theorem vMul_congr {n : Nat} {f v v' : Nat → Int64} (h : ∀ k, k < n → v k = v' k) (r : Nat) : vMul n f v r = vMul n f v' r := sorry
theorem vUnit_0 {R : Int64 → Int64} {n : Nat} {u : Nat → Int64} (h : ¬ 0 < sNorm R n u) : vUnit R n u = u := sorry
theorem sAt_0 (f : Nat → Int64) : sAt f 0 = f := sorry
theorem uL_uL {f : Nat → Int64} {k : Nat} {x y : Int64} : vp_updL (vp_updL f k x) k y = vp_updL f k y := sorry
theorem lN_0 : lN 0 = 0 := sorry
theorem ss_toI (x : Int32) : x.toInt64.toInt = x.toInt := sorry
theorem ss_in (x : Int32) {n : Nat} (hn : n < 2 ^ 31) : ((0 : Int64) ≤ x.toInt64 ∧ x.toInt64 ≤ lN n - 1) ↔ (0 ≤ x ∧ x < nI n) := sorry
theorem ss_ifin (x : Int32) {n : Nat} (hn : n < 2 ^ 31) {α : Type} (a b : α) : (if (0 : Int64) ≤ x.toInt64 ∧ x.toInt64 ≤ lN n - 1 then a else b) = (if 0 ≤ x ∧ x < nI n then a else b) := sorry
/-- the first n of u laid into f from a on -/
def sPut (n : Nat) (u : Nat → Int64) (a : Nat) (f : Nat → Int64) : Nat → Int64 := va_cpy u f 0 a n
theorem cpy_0 {u f : Nat → Int64} {a b : Nat} : va_cpy u f a b 0 = f := sorry
theorem cpy_s {u f : Nat → Int64} {a b n : Nat} {x : Int64} (h : x = u (a + n)) : vp_updL (va_cpy u f a b n) (b + n) x = va_cpy u f a b (n + 1) := sorry
theorem cpy_out {u f : Nat → Int64} {a b n k : Nat} (h : k < b ∨ b + n ≤ k) : va_cpy u f a b n k = f k := sorry
/-- the first k locked vectors taken off -/
def vLocks (n : Nat) (f : Nat → Int64) : Nat → (Nat → Int64) → (Nat → Int64)
  | 0, u => u
  | k + 1, u => vRemove n (vLocks n f k u) (sAt f (157 + 8 * k + 2))
end
section
abbrev S_met_floor (G : GX) (a : Int64) (b : Int64) : List va_W := []
abbrev Q_met_floor (G : GX) (a : Int64) (b : Int64) (A : Nat → Prop) := wQl' G (fun (r : Int64) (z : Unit) => r = fD a b) (fun (z : Unit) => ([] : List va_W)) A
set_option maxHeartbeats 8000000 in
set_option maxRecDepth 100000 in
theorem met_floor (l : Launch) (G : GX) (sz : Nat) (a : Int64) (b : Int64) (hb0 : ¬ b = 0) : Met l yX6_floor (ws_ yX6_floor cX6_floor 6 (some .long)) ({ frames := 0, cells := 0, slots := 0, locals := 0 }) (va_Pc [.long a, .long b] (wPre G (S_met_floor G a b) sz)) (Q_met_floor G a b (wA (S_met_floor G a b) sz)) 0 0 (wA (S_met_floor G a b) sz) := sorry
abbrev S_met_inRange (G : GX) (a : Int64) (b : Int64) (d : Int64) : List va_W := []
abbrev Q_met_inRange (G : GX) (a : Int64) (b : Int64) (d : Int64) (A : Nat → Prop) := wQi' G (fun (r : Int32) (z : Unit) => r = if b ≤ a ∧ a ≤ d then nI 1 else nI 0) (fun (z : Unit) => ([] : List va_W)) A
set_option maxHeartbeats 8000000 in
set_option maxRecDepth 100000 in
theorem met_inRange (l : Launch) (G : GX) (sz : Nat) (a : Int64) (b : Int64) (d : Int64)  : Met l yX6_inRange (ws_ yX6_inRange cX6_inRange 6 (some .boolean)) ({ frames := 0, cells := 0, slots := 0, locals := 0 }) (va_Pc [.long a, .long b, .long d] (wPre G (S_met_inRange G a b d) sz)) (Q_met_inRange G a b d (wA (S_met_inRange G a b d) sz)) 0 0 (wA (S_met_inRange G a b d) sz) := sorry
abbrev S_met_size (G : GX) (o : Nat) (ad : Nat → Nat) (lb : Nat) (g : Nat → Int32) (f : Nat → Int64) (n : Nat) : List va_W := [[(o, wo 5 (mo ad lb g))], [(lb, wL G 208 f)]]
abbrev Q_met_size (G : GX) (o : Nat) (ad : Nat → Nat) (lb : Nat) (g : Nat → Int32) (f : Nat → Int64) (n : Nat) (A : Nat → Prop) := wQi' G (fun (r : Int32) (z : Unit) => r = nI n) (fun (z : Unit) => ([[(o, wo 5 (mo ad lb g))], [(lb, wL G 208 f)]] : List va_W)) A
set_option maxHeartbeats 8000000 in
set_option maxRecDepth 100000 in
theorem met_size (l : Launch) (G : GX) (sz : Nat) (o : Nat) (ad : Nat → Nat) (lb : Nat) (g : Nat → Int32) (f : Nat → Int64) (n : Nat) (h0 : f 0 = lN n) : Met l yX6_size (ws_ yX6_size cX6_size 1 (some .int)) ({ frames := 0, cells := 0, slots := 0, locals := 0 }) (va_Pc [.ref o] (wPre G (S_met_size G o ad lb g f n) sz)) (Q_met_size G o ad lb g f n (wA (S_met_size G o ad lb g f n) sz)) 0 0 (wA (S_met_size G o ad lb g f n) sz) := sorry
abbrev S_met_steps0 (G : GX) (o : Nat) (ad : Nat → Nat) (lb : Nat) (g : Nat → Int32) (f : Nat → Int64) (m : Nat) : List va_W := [[(o, wo 5 (mo ad lb g))], [(lb, wL G 208 f)]]
abbrev Q_met_steps0 (G : GX) (o : Nat) (ad : Nat → Nat) (lb : Nat) (g : Nat → Int32) (f : Nat → Int64) (m : Nat) (A : Nat → Prop) := wQi' G (fun (r : Int32) (z : Unit) => r = nI m) (fun (z : Unit) => ([[(o, wo 5 (mo ad lb g))], [(lb, wL G 208 f)]] : List va_W)) A
set_option maxHeartbeats 8000000 in
set_option maxRecDepth 100000 in
theorem met_steps0 (l : Launch) (G : GX) (sz : Nat) (o : Nat) (ad : Nat → Nat) (lb : Nat) (g : Nat → Int32) (f : Nat → Int64) (m : Nat) (h4 : f 4 = lN m) : Met l yX6_steps0 (ws_ yX6_steps0 cX6_steps0 1 (some .int)) ({ frames := 0, cells := 0, slots := 0, locals := 0 }) (va_Pc [.ref o] (wPre G (S_met_steps0 G o ad lb g f m) sz)) (Q_met_steps0 G o ad lb g f m (wA (S_met_steps0 G o ad lb g f m) sz)) 0 0 (wA (S_met_steps0 G o ad lb g f m) sz) := sorry
abbrev S_met_lockedNow (G : GX) (o : Nat) (ad : Nat → Nat) (lb : Nat) (g : Nat → Int32) (f : Nat → Int64) (q : Nat) : List va_W := [[(o, wo 5 (mo ad lb g))], [(lb, wL G 208 f)]]
abbrev Q_met_lockedNow (G : GX) (o : Nat) (ad : Nat → Nat) (lb : Nat) (g : Nat → Int32) (f : Nat → Int64) (q : Nat) (A : Nat → Prop) := wQi' G (fun (r : Int32) (z : Unit) => r = nI q) (fun (z : Unit) => ([[(o, wo 5 (mo ad lb g))], [(lb, wL G 208 f)]] : List va_W)) A
set_option maxHeartbeats 8000000 in
set_option maxRecDepth 100000 in
theorem met_lockedNow (l : Launch) (G : GX) (sz : Nat) (o : Nat) (ad : Nat → Nat) (lb : Nat) (g : Nat → Int32) (f : Nat → Int64) (q : Nat) (h6 : f 6 = lN q) : Met l yX6_lockedNow (ws_ yX6_lockedNow cX6_lockedNow 1 (some .int)) ({ frames := 0, cells := 0, slots := 0, locals := 0 }) (va_Pc [.ref o] (wPre G (S_met_lockedNow G o ad lb g f q) sz)) (Q_met_lockedNow G o ad lb g f q (wA (S_met_lockedNow G o ad lb g f q) sz)) 0 0 (wA (S_met_lockedNow G o ad lb g f q) sz) := sorry
abbrev S_met_raise (G : GX) (o : Nat) (ad : Nat → Nat) (lb : Nat) (g : Nat → Int32) (x : Int32) : List va_W := [[(o, wo 5 (mo ad lb g))]]
abbrev Q_met_raise (G : GX) (o : Nat) (ad : Nat → Nat) (lb : Nat) (g : Nat → Int32) (x : Int32) (A : Nat → Prop) := wQi' G (fun (r : Int32) (z : Unit) => r = nI 0) (fun (z : Unit) => ([[(o, wo 5 (mo ad lb (upd g 1 x)))]] : List va_W)) A
set_option maxHeartbeats 8000000 in
set_option maxRecDepth 100000 in
theorem met_raise (l : Launch) (G : GX) (sz : Nat) (o : Nat) (ad : Nat → Nat) (lb : Nat) (g : Nat → Int32) (x : Int32)  : Met l yX6_raise (ws_ yX6_raise cX6_raise 2 (some .int)) ({ frames := 0, cells := 0, slots := 0, locals := 0 }) (va_Pc [.ref o, .int x] (wPre G (S_met_raise G o ad lb g x) sz)) (Q_met_raise G o ad lb g x (wA (S_met_raise G o ad lb g x) sz)) 0 0 (wA (S_met_raise G o ad lb g x) sz) := sorry
abbrev S_met_lockAt (G : GX) (k : Nat) : List va_W := []
abbrev Q_met_lockAt (G : GX) (k : Nat) (A : Nat → Prop) := wQi' G (fun (r : Int32) (z : Unit) => r = nI (157 + 8 * k)) (fun (z : Unit) => ([] : List va_W)) A
set_option maxHeartbeats 8000000 in
set_option maxRecDepth 100000 in
theorem met_lockAt (l : Launch) (G : GX) (sz : Nat) (k : Nat)  : Met l yX6_lockAt (ws_ yX6_lockAt cX6_lockAt 1 (some .int)) ({ frames := 0, cells := 0, slots := 0, locals := 0 }) (va_Pc [.int (nI k)] (wPre G (S_met_lockAt G k) sz)) (Q_met_lockAt G k (wA (S_met_lockAt G k) sz)) 0 0 (wA (S_met_lockAt G k) sz) := sorry
abbrev S_met_basisAt (G : GX) (k : Nat) : List va_W := []
abbrev Q_met_basisAt (G : GX) (k : Nat) (A : Nat → Prop) := wQi' G (fun (r : Int32) (z : Unit) => r = nI (54 + 6 * k)) (fun (z : Unit) => ([] : List va_W)) A
set_option maxHeartbeats 8000000 in
set_option maxRecDepth 100000 in
theorem met_basisAt (l : Launch) (G : GX) (sz : Nat) (k : Nat)  : Met l yX6_basisAt (ws_ yX6_basisAt cX6_basisAt 1 (some .int)) ({ frames := 0, cells := 0, slots := 0, locals := 0 }) (va_Pc [.int (nI k)] (wPre G (S_met_basisAt G k) sz)) (Q_met_basisAt G k (wA (S_met_basisAt G k) sz)) 0 0 (wA (S_met_basisAt G k) sz) := sorry
abbrev S_met_root (G : GX) (x : Int64) : List va_W := []
abbrev Q_met_root (G : GX) (x : Int64) (A : Nat → Prop) := wQl' G (fun (r : Int64) (z : Unit) => r = rootM x) (fun (z : Unit) => ([] : List va_W)) A
set_option maxHeartbeats 8000000 in
set_option maxRecDepth 100000 in
theorem met_root (l : Launch) (G : GX) (sz : Nat) (x : Int64)  : Met l yX6_root (ws_ yX6_root cX6_root 8 (some .long)) ({ frames := 0, cells := 0, slots := 0, locals := 0 }) (va_Pc [.long x] (wPre G (S_met_root G x) sz)) (Q_met_root G x (wA (S_met_root G x) sz)) 0 0 (wA (S_met_root G x) sz) := sorry
abbrev S_met_norm (G : GX) (w : Nat) (u : Nat → Int64) (u0 : Nat → Int64) (n : Nat) : List va_W := [[(w, wL G 6 (sMap n u u0))]]
abbrev Q_met_norm (G : GX) (w : Nat) (u : Nat → Int64) (u0 : Nat → Int64) (n : Nat) (A : Nat → Prop) := wQl' G (fun (r : Int64) (z : Unit) => r = sNorm rootM n u) (fun (z : Unit) => ([[(w, wL G 6 (sMap n u u0))]] : List va_W)) A
set_option maxHeartbeats 8000000 in
set_option maxRecDepth 100000 in
theorem met_norm (l : Launch) (G : GX) (sz : Nat) (w : Nat) (u : Nat → Int64) (u0 : Nat → Int64) (n : Nat) (hn : n ≤ 6) : Met l yX6_norm (ws_ yX6_norm cX6_norm 5 (some .long)) ({ frames := 1, cells := 0, slots := 0, locals := 27 }) (va_Pc [.ref w, .int (nI n)] (wPre G (S_met_norm G w u u0 n) sz)) (Q_met_norm G w u u0 n (wA (S_met_norm G w u u0 n) sz)) 0 0 (wA (S_met_norm G w u u0 n) sz) := sorry
abbrev S_met_makeUnit (G : GX) (w : Nat) (u : Nat → Int64) (u0 : Nat → Int64) (n : Nat) : List va_W := [[(w, wL G 6 (sMap n u u0))]]
abbrev Q_met_makeUnit (G : GX) (w : Nat) (u : Nat → Int64) (u0 : Nat → Int64) (n : Nat) (A : Nat → Prop) := wQv' G (fun (z : Unit) => True) (fun (z : Unit) => ([[(w, wL G 6 (sMap n (vUnit rootM n u) u0))]] : List va_W)) A
set_option maxHeartbeats 8000000 in
set_option maxRecDepth 100000 in
theorem met_makeUnit (l : Launch) (G : GX) (sz : Nat) (w : Nat) (u : Nat → Int64) (u0 : Nat → Int64) (n : Nat) (hn : n ≤ 6) : Met l yX6_makeUnit (ws_ yX6_makeUnit cX6_makeUnit 5 none) ({ frames := 2, cells := 0, slots := 0, locals := 51 }) (va_Pc [.ref w, .int (nI n)] (wPre G (S_met_makeUnit G w u u0 n) sz)) (Q_met_makeUnit G w u u0 n (wA (S_met_makeUnit G w u u0 n) sz)) 0 0 (wA (S_met_makeUnit G w u u0 n) sz) := sorry
abbrev S_met_dot (G : GX) (o : Nat) (ad : Nat → Nat) (lb : Nat) (g : Nat → Int32) (f : Nat → Int64) (n : Nat) (w : Nat) (u : Nat → Int64) (u0 : Nat → Int64) (p2 : Nat) : List va_W := [[(o, wo 5 (mo ad lb g))], [(lb, wL G 208 f)], [(w, wL G 6 (sMap n u u0))]]
abbrev Q_met_dot (G : GX) (o : Nat) (ad : Nat → Nat) (lb : Nat) (g : Nat → Int32) (f : Nat → Int64) (n : Nat) (w : Nat) (u : Nat → Int64) (u0 : Nat → Int64) (p2 : Nat) (A : Nat → Prop) := wQl' G (fun (r : Int64) (z : Unit) => r = sDot n u (sAt f p2)) (fun (z : Unit) => ([[(o, wo 5 (mo ad lb g))], [(lb, wL G 208 f)], [(w, wL G 6 (sMap n u u0))]] : List va_W)) A
set_option maxHeartbeats 8000000 in
set_option maxRecDepth 100000 in
theorem met_dot (l : Launch) (G : GX) (sz : Nat) (o : Nat) (ad : Nat → Nat) (lb : Nat) (g : Nat → Int32) (f : Nat → Int64) (n : Nat) (w : Nat) (u : Nat → Int64) (u0 : Nat → Int64) (p2 : Nat) (h0 : f 0 = lN n) (hn : n ≤ 6) (h2 : p2 + n ≤ 208) : Met l yX6_dot (ws_ yX6_dot cX6_dot 8 (some .long)) ({ frames := 1, cells := 0, slots := 0, locals := 25 }) (va_Pc [.ref o, .ref w, .int (nI 0), .ref lb, .int (nI p2)] (wPre G (S_met_dot G o ad lb g f n w u u0 p2) sz)) (Q_met_dot G o ad lb g f n w u u0 p2 (wA (S_met_dot G o ad lb g f n w u u0 p2) sz)) 0 0 (wA (S_met_dot G o ad lb g f n w u u0 p2) sz) := sorry
abbrev S_met_dotL (G : GX) (o : Nat) (ad : Nat → Nat) (lb : Nat) (g : Nat → Int32) (f : Nat → Int64) (n : Nat) (p1 : Nat) (p2 : Nat) : List va_W := [[(o, wo 5 (mo ad lb g))], [(lb, wL G 208 f)]]
abbrev Q_met_dotL (G : GX) (o : Nat) (ad : Nat → Nat) (lb : Nat) (g : Nat → Int32) (f : Nat → Int64) (n : Nat) (p1 : Nat) (p2 : Nat) (A : Nat → Prop) := wQl' G (fun (r : Int64) (z : Unit) => r = sDot n (sAt f p1) (sAt f p2)) (fun (z : Unit) => ([[(o, wo 5 (mo ad lb g))], [(lb, wL G 208 f)]] : List va_W)) A
set_option maxHeartbeats 8000000 in
set_option maxRecDepth 100000 in
theorem met_dotL (l : Launch) (G : GX) (sz : Nat) (o : Nat) (ad : Nat → Nat) (lb : Nat) (g : Nat → Int32) (f : Nat → Int64) (n : Nat) (p1 : Nat) (p2 : Nat) (h0 : f 0 = lN n) (hn : n ≤ 6) (h1 : p1 + n ≤ 208) (h2 : p2 + n ≤ 208) : Met l yX6_dot (ws_ yX6_dot cX6_dot 8 (some .long)) ({ frames := 1, cells := 0, slots := 0, locals := 25 }) (va_Pc [.ref o, .ref lb, .int (nI p1), .ref lb, .int (nI p2)] (wPre G (S_met_dotL G o ad lb g f n p1 p2) sz)) (Q_met_dotL G o ad lb g f n p1 p2 (wA (S_met_dotL G o ad lb g f n p1 p2) sz)) 0 0 (wA (S_met_dotL G o ad lb g f n p1 p2) sz) := sorry
abbrev S_met_takeOff (G : GX) (o : Nat) (ad : Nat → Nat) (lb : Nat) (g : Nat → Int32) (f : Nat → Int64) (n : Nat) (w : Nat) (u : Nat → Int64) (u0 : Nat → Int64) (x : Int64) (p : Nat) : List va_W := [[(o, wo 5 (mo ad lb g))], [(lb, wL G 208 f)], [(w, wL G 6 (sMap n u u0))]]
abbrev Q_met_takeOff (G : GX) (o : Nat) (ad : Nat → Nat) (lb : Nat) (g : Nat → Int32) (f : Nat → Int64) (n : Nat) (w : Nat) (u : Nat → Int64) (u0 : Nat → Int64) (x : Int64) (p : Nat) (A : Nat → Prop) := wQv' G (fun (z : Unit) => True) (fun (z : Unit) => ([[(o, wo 5 (mo ad lb g))], [(lb, wL G 208 f)], [(w, wL G 6 (sMap n (vTake x u (sAt f p)) u0))]] : List va_W)) A
set_option maxHeartbeats 8000000 in
set_option maxRecDepth 100000 in
theorem met_takeOff (l : Launch) (G : GX) (sz : Nat) (o : Nat) (ad : Nat → Nat) (lb : Nat) (g : Nat → Int32) (f : Nat → Int64) (n : Nat) (w : Nat) (u : Nat → Int64) (u0 : Nat → Int64) (x : Int64) (p : Nat) (h0 : f 0 = lN n) (hn : n ≤ 6) (h2 : p + n ≤ 208) : Met l yX6_takeOff (ws_ yX6_takeOff cX6_takeOff 7 none) ({ frames := 1, cells := 0, slots := 0, locals := 25 }) (va_Pc [.ref o, .ref w, .long x, .ref lb, .int (nI p)] (wPre G (S_met_takeOff G o ad lb g f n w u u0 x p) sz)) (Q_met_takeOff G o ad lb g f n w u u0 x p (wA (S_met_takeOff G o ad lb g f n w u u0 x p) sz)) 0 0 (wA (S_met_takeOff G o ad lb g f n w u u0 x p) sz) := sorry
abbrev S_met_takeOffR (G : GX) (o : Nat) (ad : Nat → Nat) (lb : Nat) (g : Nat → Int32) (f : Nat → Int64) (n : Nat) (w : Nat) (u : Nat → Int64) (u0 : Nat → Int64) (x : Int64) (v : Nat) (t : Nat → Int64) (t0 : Nat → Int64) : List va_W := [[(o, wo 5 (mo ad lb g))], [(lb, wL G 208 f)], [(w, wL G 6 (sMap n u u0))], [(v, wL G 6 (sMap n t t0))]]
abbrev Q_met_takeOffR (G : GX) (o : Nat) (ad : Nat → Nat) (lb : Nat) (g : Nat → Int32) (f : Nat → Int64) (n : Nat) (w : Nat) (u : Nat → Int64) (u0 : Nat → Int64) (x : Int64) (v : Nat) (t : Nat → Int64) (t0 : Nat → Int64) (A : Nat → Prop) := wQv' G (fun (z : Unit) => True) (fun (z : Unit) => ([[(o, wo 5 (mo ad lb g))], [(lb, wL G 208 f)], [(w, wL G 6 (sMap n (vTake x u t) u0))], [(v, wL G 6 (sMap n t t0))]] : List va_W)) A
set_option maxHeartbeats 8000000 in
set_option maxRecDepth 100000 in
theorem met_takeOffR (l : Launch) (G : GX) (sz : Nat) (o : Nat) (ad : Nat → Nat) (lb : Nat) (g : Nat → Int32) (f : Nat → Int64) (n : Nat) (w : Nat) (u : Nat → Int64) (u0 : Nat → Int64) (x : Int64) (v : Nat) (t : Nat → Int64) (t0 : Nat → Int64) (h0 : f 0 = lN n) (hn : n ≤ 6) : Met l yX6_takeOff (ws_ yX6_takeOff cX6_takeOff 7 none) ({ frames := 1, cells := 0, slots := 0, locals := 25 }) (va_Pc [.ref o, .ref w, .long x, .ref v, .int (nI 0)] (wPre G (S_met_takeOffR G o ad lb g f n w u u0 x v t t0) sz)) (Q_met_takeOffR G o ad lb g f n w u u0 x v t t0 (wA (S_met_takeOffR G o ad lb g f n w u u0 x v t t0) sz)) 0 0 (wA (S_met_takeOffR G o ad lb g f n w u u0 x v t t0) sz) := sorry
abbrev S_met_remove (G : GX) (o : Nat) (ad : Nat → Nat) (lb : Nat) (g : Nat → Int32) (f : Nat → Int64) (n : Nat) (w : Nat) (u : Nat → Int64) (u0 : Nat → Int64) (p : Nat) : List va_W := [[(o, wo 5 (mo ad lb g))], [(lb, wL G 208 f)], [(w, wL G 6 (sMap n u u0))]]
abbrev Q_met_remove (G : GX) (o : Nat) (ad : Nat → Nat) (lb : Nat) (g : Nat → Int32) (f : Nat → Int64) (n : Nat) (w : Nat) (u : Nat → Int64) (u0 : Nat → Int64) (p : Nat) (A : Nat → Prop) := wQv' G (fun (z : Unit) => True) (fun (z : Unit) => ([[(o, wo 5 (mo ad lb g))], [(lb, wL G 208 f)], [(w, wL G 6 (sMap n (vRemove n u (sAt f p)) u0))]] : List va_W)) A
set_option maxHeartbeats 8000000 in
set_option maxRecDepth 100000 in
theorem met_remove (l : Launch) (G : GX) (sz : Nat) (o : Nat) (ad : Nat → Nat) (lb : Nat) (g : Nat → Int32) (f : Nat → Int64) (n : Nat) (w : Nat) (u : Nat → Int64) (u0 : Nat → Int64) (p : Nat) (h0 : f 0 = lN n) (hn : n ≤ 6) (h2 : p + n ≤ 208) : Met l yX6_remove (ws_ yX6_remove cX6_remove 4 none) ({ frames := 2, cells := 0, slots := 0, locals := 52 }) (va_Pc [.ref o, .ref w, .ref lb, .int (nI p)] (wPre G (S_met_remove G o ad lb g f n w u u0 p) sz)) (Q_met_remove G o ad lb g f n w u u0 p (wA (S_met_remove G o ad lb g f n w u u0 p) sz)) 0 0 (wA (S_met_remove G o ad lb g f n w u u0 p) sz) := sorry
abbrev S_met_put (G : GX) (o : Nat) (ad : Nat → Nat) (lb : Nat) (g : Nat → Int32) (f : Nat → Int64) (n : Nat) (w : Nat) (u : Nat → Int64) (u0 : Nat → Int64) (p : Nat) : List va_W := [[(o, wo 5 (mo ad lb g))], [(lb, wL G 208 f)], [(w, wL G 6 (sMap n u u0))]]
abbrev Q_met_put (G : GX) (o : Nat) (ad : Nat → Nat) (lb : Nat) (g : Nat → Int32) (f : Nat → Int64) (n : Nat) (w : Nat) (u : Nat → Int64) (u0 : Nat → Int64) (p : Nat) (A : Nat → Prop) := wQv' G (fun (z : Unit) => True) (fun (z : Unit) => ([[(o, wo 5 (mo ad lb g))], [(lb, wL G 208 (sPut n u p f))], [(w, wL G 6 (sMap n u u0))]] : List va_W)) A
set_option maxHeartbeats 8000000 in
set_option maxRecDepth 100000 in
theorem met_put (l : Launch) (G : GX) (sz : Nat) (o : Nat) (ad : Nat → Nat) (lb : Nat) (g : Nat → Int32) (f : Nat → Int64) (n : Nat) (w : Nat) (u : Nat → Int64) (u0 : Nat → Int64) (p : Nat) (h0 : f 0 = lN n) (hn : n ≤ 6) (h2 : p + n ≤ 208) (h3 : 0 < p) : Met l yX6_put (ws_ yX6_put cX6_put 4 none) ({ frames := 1, cells := 0, slots := 0, locals := 20 }) (va_Pc [.ref o, .ref w, .int (nI p)] (wPre G (S_met_put G o ad lb g f n w u u0 p) sz)) (Q_met_put G o ad lb g f n w u u0 p (wA (S_met_put G o ad lb g f n w u u0 p) sz)) 0 0 (wA (S_met_put G o ad lb g f n w u u0 p) sz) := sorry
abbrev S_met_multiply (G : GX) (o : Nat) (ad : Nat → Nat) (lb : Nat) (g : Nat → Int32) (f : Nat → Int64) (n : Nat) (w : Nat) (u0 : Nat → Int64) (p : Nat) : List va_W := [[(o, wo 5 (mo ad lb g))], [(lb, wL G 208 f)], [(w, wL G 6 u0)]]
abbrev Q_met_multiply (G : GX) (o : Nat) (ad : Nat → Nat) (lb : Nat) (g : Nat → Int32) (f : Nat → Int64) (n : Nat) (w : Nat) (u0 : Nat → Int64) (p : Nat) (A : Nat → Prop) := wQv' G (fun (z : Unit) => True) (fun (z : Unit) => ([[(o, wo 5 (mo ad lb g))], [(lb, wL G 208 f)], [(w, wL G 6 (sMap n (vMul n f (sAt f p)) u0))]] : List va_W)) A
set_option maxHeartbeats 8000000 in
set_option maxRecDepth 100000 in
theorem met_multiply (l : Launch) (G : GX) (sz : Nat) (o : Nat) (ad : Nat → Nat) (lb : Nat) (g : Nat → Int32) (f : Nat → Int64) (n : Nat) (w : Nat) (u0 : Nat → Int64) (p : Nat) (h0 : f 0 = lN n) (hn : n ≤ 6) (h2 : p + n ≤ 208) : Met l yX6_multiply (ws_ yX6_multiply cX6_multiply 6 none) ({ frames := 1, cells := 0, slots := 0, locals := 20 }) (va_Pc [.ref o, .ref lb, .int (nI p), .ref w] (wPre G (S_met_multiply G o ad lb g f n w u0 p) sz)) (Q_met_multiply G o ad lb g f n w u0 p (wA (S_met_multiply G o ad lb g f n w u0 p) sz)) 0 0 (wA (S_met_multiply G o ad lb g f n w u0 p) sz) := sorry
abbrev S_met_multiplyR (G : GX) (o : Nat) (ad : Nat → Nat) (lb : Nat) (g : Nat → Int32) (f : Nat → Int64) (n : Nat) (w : Nat) (u0 : Nat → Int64) (v : Nat) (t : Nat → Int64) (t0 : Nat → Int64) : List va_W := [[(o, wo 5 (mo ad lb g))], [(lb, wL G 208 f)], [(w, wL G 6 u0)], [(v, wL G 6 (sMap n t t0))]]
abbrev Q_met_multiplyR (G : GX) (o : Nat) (ad : Nat → Nat) (lb : Nat) (g : Nat → Int32) (f : Nat → Int64) (n : Nat) (w : Nat) (u0 : Nat → Int64) (v : Nat) (t : Nat → Int64) (t0 : Nat → Int64) (A : Nat → Prop) := wQv' G (fun (z : Unit) => True) (fun (z : Unit) => ([[(o, wo 5 (mo ad lb g))], [(lb, wL G 208 f)], [(w, wL G 6 (sMap n (vMul n f t) u0))], [(v, wL G 6 (sMap n t t0))]] : List va_W)) A
set_option maxHeartbeats 8000000 in
set_option maxRecDepth 100000 in
theorem met_multiplyR (l : Launch) (G : GX) (sz : Nat) (o : Nat) (ad : Nat → Nat) (lb : Nat) (g : Nat → Int32) (f : Nat → Int64) (n : Nat) (w : Nat) (u0 : Nat → Int64) (v : Nat) (t : Nat → Int64) (t0 : Nat → Int64) (h0 : f 0 = lN n) (hn : n ≤ 6) : Met l yX6_multiply (ws_ yX6_multiply cX6_multiply 6 none) ({ frames := 1, cells := 0, slots := 0, locals := 20 }) (va_Pc [.ref o, .ref v, .int (nI 0), .ref w] (wPre G (S_met_multiplyR G o ad lb g f n w u0 v t t0) sz)) (Q_met_multiplyR G o ad lb g f n w u0 v t t0 (wA (S_met_multiplyR G o ad lb g f n w u0 v t t0) sz)) 0 0 (wA (S_met_multiplyR G o ad lb g f n w u0 v t t0) sz) := sorry
abbrev S_met_setBoth (G : GX) (lb : Nat) (f : Nat → Int64) (i : Nat) (j : Nat) (x : Int64) : List va_W := [[(lb, wL G 208 f)]]
abbrev Q_met_setBoth (G : GX) (lb : Nat) (f : Nat → Int64) (i : Nat) (j : Nat) (x : Int64) (A : Nat → Prop) := wQv' G (fun (z : Unit) => True) (fun (z : Unit) => ([[(lb, wL G 208 (vp_updL (vp_updL f (18 + 6 * i + j) x) (18 + 6 * j + i) x))]] : List va_W)) A
set_option maxHeartbeats 8000000 in
set_option maxRecDepth 100000 in
theorem met_setBoth (l : Launch) (G : GX) (sz : Nat) (lb : Nat) (f : Nat → Int64) (i : Nat) (j : Nat) (x : Int64) (hi : i < 6) (hj : j < 6) : Met l yX6_setBoth (ws_ yX6_setBoth cX6_setBoth 5 none) ({ frames := 0, cells := 0, slots := 0, locals := 0 }) (va_Pc [.ref lb, .int (nI i), .int (nI j), .long x] (wPre G (S_met_setBoth G lb f i j x) sz)) (Q_met_setBoth G lb f i j x (wA (S_met_setBoth G lb f i j x) sz)) 0 0 (wA (S_met_setBoth G lb f i j x) sz) := sorry
end
section
/-! SPEC 2: the space of the laboratory, as an array of numbers f -/
abbrev aAbs (v : Int64) : Int64 := if 0 < v then v else -v
abbrev sMuch (f : Nat → Int64) (v : Int64) : Prop := f 1 = 2 ∨ (f 1 = 1 ∧ f 2 < aAbs v)
def sBound (v most : Int64) : Int64 := if (if v < most then v else most) < -most then -most else (if v < most then v else most)
theorem nz_if {c : Prop} [Decidable c] : narrow .boolean (.int (if c then nI 1 else nI 0)) = .int (if c then nI 1 else nI 0) := sorry
/-- purging: the vector, and the total -/
def vPurge (n : Nat) (f : Nat → Int64) (u : Nat → Int64) : Nat → (Nat → Int64)
  | 0 => u
  | k + 1 => if sMuch f (sDot n (vPurge n f u k) (sAt f (157 + 8 * k + 2))) then vRemove n (vPurge n f u k) (sAt f (157 + 8 * k + 2)) else vPurge n f u k
def nPurge (n : Nat) (f : Nat → Int64) (u : Nat → Int64) : Nat → Int64
  | 0 => f 8
  | k + 1 => if sMuch f (sDot n (vPurge n f u k) (sAt f (157 + 8 * k + 2))) then nPurge n f u k + 1 else nPurge n f u k
/-- estimates, as they go into products -/
def sTold (f : Nat → Int64) (x y : Int32) : Int64 := if x < 0 ∨ y < 0 ∨ x < y then 0 else if x = y then 1000000 else f (108 + 7 * x.toNatClampNeg + y.toNatClampNeg)
def sBeta0 (f : Nat → Int64) (x : Int32) : Int64 := if x < 0 then 0 else f (102 + x.toNatClampNeg)
def sEst (f : Nat → Int64) (m : Nat) (b : Int64) (k : Nat) : Int64 :=
  let x := (f (102 + k) * sTold f (nI m) (nI (k + 1)) + (f (96 + k) - f (96 + m)) * sTold f (nI m) (nI k) + (sBeta0 f (nI k - nI 1) * sTold f (nI m) (nI k - nI 1) - sBeta0 f (nI m - nI 1) * sTold f (nI m - nI 1) (nI k))) / b
  sBound (if 0 ≤ x then x + 2 else x - 2) 1000000
def fEst (f : Nat → Int64) (m : Nat) (b : Int64) : Nat → Int64 := vp_updL (va_cpy (sEst f m b) f 0 (108 + 7 * (m + 1)) m) (108 + 7 * (m + 1) + m) 2
/-- repairing: the vector, the row of the laboratory, whether anything was -/
def vRep (n : Nat) (f : Nat → Int64) (m : Nat) (u : Nat → Int64) : Nat → (Nat → Int64)
  | 0 => u
  | k + 1 => if sMuch f (f (108 + 7 * (m + 1) + k)) then vRemove n (vRep n f m u k) (sAt f (54 + 6 * k)) else vRep n f m u k
def fRep (f : Nat → Int64) (m : Nat) : Nat → (Nat → Int64)
  | 0 => f
  | k + 1 => if sMuch f (f (108 + 7 * (m + 1) + k)) then vp_updL (vp_updL (fRep f m k) (108 + 7 * (m + 1) + k) 2) 9 (fRep f m k 9 + 1) else fRep f m k
def bRep (f : Nat → Int64) (m : Nat) : Nat → Bool
  | 0 => false
  | k + 1 => if sMuch f (f (108 + 7 * (m + 1) + k)) then true else bRep f m k
theorem fRep_at {f : Nat → Int64} {m k j : Nat} (h : j < 108 + 7 * (m + 1) ∨ 108 + 7 * (m + 1) + k ≤ j) (h9 : j ≠ 9) : fRep f m k j = f j := sorry
/-- one step -/
def fSt1 (f : Nat → Int64) : Nat → Int64 := vp_updL (vp_updL f 4 (f 4 + 1)) 7 (f 7 + 1)
def vSt1 (n : Nat) (f : Nat → Int64) (m : Nat) : Nat → Int64 := if 0 < m then vTake (f (102 + m - 1)) (vMul n f (sAt f (54 + 6 * m))) (sAt f (54 + 6 * (m - 1))) else vMul n f (sAt f (54 + 6 * m))
def fSt2 (n : Nat) (f : Nat → Int64) (m : Nat) : Nat → Int64 := vp_updL (fSt1 f) (96 + m) (sDot n (vSt1 n (fSt1 f) m) (sAt (fSt1 f) (54 + 6 * m)))
def vSt2 (n : Nat) (f : Nat → Int64) (m : Nat) : Nat → Int64 := vTake (sDot n (vSt1 n (fSt1 f) m) (sAt (fSt1 f) (54 + 6 * m))) (vSt1 n (fSt1 f) m) (sAt (fSt2 n f m) (54 + 6 * m))
def fSt3 (n q : Nat) (f : Nat → Int64) (m : Nat) : Nat → Int64 := vp_updL (fSt2 n f m) 8 (nPurge n (fSt2 n f m) (vSt2 n f m) q)
def vSt3 (n q : Nat) (f : Nat → Int64) (m : Nat) : Nat → Int64 := vPurge n (fSt2 n f m) (vSt2 n f m) q
def fClose (f : Nat → Int64) (m : Nat) : Nat → Int64 := vp_updL (vp_updL f (102 + m) 0) 5 1
def fSt4 (R : Int64 → Int64) (n q : Nat) (f : Nat → Int64) (m : Nat) : Nat → Int64 := fEst (fSt3 n q f m) m (sNorm R n (vSt3 n q f m))
def fSt5 (R : Int64 → Int64) (n q : Nat) (f : Nat → Int64) (m : Nat) : Nat → Int64 := fRep (fSt4 R n q f m) m (m + 1)
def vSt5 (R : Int64 → Int64) (n q : Nat) (f : Nat → Int64) (m : Nat) : Nat → Int64 := vRep n (fSt4 R n q f m) m (vSt3 n q f m) (m + 1)
def nSt5 (R : Int64 → Int64) (n q : Nat) (f : Nat → Int64) (m : Nat) : Int64 := if bRep (fSt4 R n q f m) m (m + 1) = true then sNorm R n (vSt5 R n q f m) else sNorm R n (vSt3 n q f m)
/-- the row behind one step from the row f of order n, m steps, q locked -/
def fStep (R : Int64 → Int64) (n q : Nat) (f : Nat → Int64) (m : Nat) : Nat → Int64 :=
  if sNorm R n (vSt3 n q f m) < 1000 then fClose (fSt3 n q f m) m
  else if nSt5 R n q f m < 1000 then fClose (fSt5 R n q f m) m
  else sPut n (vUnit R n (vSt5 R n q f m)) (54 + 6 * (m + 1)) (vp_updL (fSt5 R n q f m) (102 + m) (nSt5 R n q f m))
/-- the space begins -/
def fBeg (R : Int64 → Int64) (n q : Nat) (f u : Nat → Int64) : Nat → Int64 :=
  if sNorm R n (vLocks n f q u) < 1000 then f
  else vp_updL (vp_updL (vp_updL (sPut n (vUnit R n (vLocks n f q u)) 54 f) 4 0) 5 0) 10 (f 10 + 1)
abbrev okBeg (R : Int64 → Int64) (n q : Nat) (f u : Nat → Int64) : Prop := ¬ sNorm R n (vLocks n f q u) < 1000
theorem fBeg_f {R : Int64 → Int64} {n q : Nat} {f u : Nat → Int64} (h : sNorm R n (vLocks n f q u) < 1000) : fBeg R n q f u = f := sorry
theorem fBeg_t {R : Int64 → Int64} {n q : Nat} {f u : Nat → Int64} (h : ¬ sNorm R n (vLocks n f q u) < 1000) : fBeg R n q f u = vp_updL (vp_updL (vp_updL (sPut n (vUnit R n (vLocks n f q u)) 54 f) 4 0) 5 0) 10 (f 10 + 1) := sorry
def vStart (f : Nat → Int64) : Nat → Int64 := fun k => f (12 + k) * 1000000
/-- Sturm's count: what comes before the k-th, the count -/
def sAdj (d : Int64) : Int64 := if d = 0 then -1 else d
def sBef (f : Nat → Int64) (x : Int64) : Nat → Int64
  | 0 => 1
  | k + 1 => sAdj (if 0 < k then f (96 + k) - x - fD (f (102 + k - 1) * f (102 + k - 1)) (sBef f x k) else f (96 + k) - x)
def sCnt (f : Nat → Int64) (x : Int64) : Nat → Nat
  | 0 => 0
  | k + 1 => sCnt f x k + (if sBef f x (k + 1) < 0 then 1 else 0)
theorem sAdj_ne (d : Int64) : ¬ sAdj d = 0 := sorry
theorem sBef_ne (f : Nat → Int64) (x : Int64) (k : Nat) : ¬ sBef f x k = 0 := sorry
theorem sCnt_le (f : Nat → Int64) (x : Int64) (k : Nat) : sCnt f x k ≤ k := sorry
def sBis (c : Int64 → Nat) (k : Nat) : Nat → Int64 → Int64 → Int64
  | 0, lo, _ => lo
  | n + 1, lo, hi => if lo < hi then (if k < c (fD (lo + hi) 2) then sBis c k n lo (fD (lo + hi) 2) else sBis c k n (fD (lo + hi) 2 + 1) hi) else lo
def sVal (f : Nat → Int64) (m k : Nat) : Int64 := sBis (fun x => sCnt f x m) k 1400000001 (-700000000) 700000000
/-- by how much of each basis vector a Ritz vector is made -/
def sSh (f : Nat → Int64) (t : Int64) : Nat → Int64
  | 0 => 1000000
  | 1 => sBound ((t - f 96) * 1000000 / f 102) 100000000
  | k + 2 => sBound (((t - f (96 + (k + 1))) * sSh f t (k + 1) - f (102 + (k + 1) - 1) * sSh f t k) / f (102 + (k + 1))) 100000000
theorem sSh_s (f : Nat → Int64) (t : Int64) (k : Nat) : sSh f t (k + 1) = sBound ((if 0 < k then (t - f (96 + k)) * sSh f t k - f (102 + k - 1) * sSh f t (k - 1) else (t - f (96 + k)) * sSh f t k) / f (102 + k)) 100000000 := sorry
def sBnd (R : Int64 → Int64) (f : Nat → Int64) (m k : Nat) : Int64 := f (102 + (m - 1)) * aAbs (sSh f (sVal f m k) (m - 1)) / sNorm R m (sSh f (sVal f m k))
def vRz0 (f : Nat → Int64) (m k : Nat) : Nat → Int64 := fun c => fD (sSum (fun i => sSh f (sVal f m k) i * f (54 + 6 * i + c)) m) 1000000
def vRitz (R : Int64 → Int64) (n : Nat) (f : Nat → Int64) (m k : Nat) : Nat → Int64 := vUnit R n (vRz0 f m k)
def sRes (R : Int64 → Int64) (n : Nat) (f : Nat → Int64) (x : Int64) (v : Nat → Int64) : Int64 := sNorm R n (vTake x (vMul n f v) v)
end
section
/-- a fresh row -/
def fClr (n : Nat) : Nat → Int64 := fun k => if k = 0 then lN n else if k = 2 then 1000 else if k = 3 then 100 else if 12 ≤ k ∧ k < 12 + n then 1 else 0
theorem fClr_of {n : Nat} {f : Nat → Int64} (hn : n ≤ 6) : va_cpy (fun _ => 1) (vp_updL (vp_updL (vp_updL (sMap 208 (fun _ => 0) f) 0 (lN n)) 2 1000) 3 100) 0 12 n = sMap 208 (fClr n) f := sorry
abbrev S_met_clear (G : GX) (lb : Nat) (f : Nat → Int64) (n : Nat) : List va_W := [[(lb, wL G 208 f)]]
abbrev Q_met_clear (G : GX) (lb : Nat) (f : Nat → Int64) (n : Nat) (A : Nat → Prop) := wQv' G (fun (z : Unit) => True) (fun (z : Unit) => ([[(lb, wL G 208 (sMap 208 (fClr n) f))]] : List va_W)) A
set_option maxHeartbeats 8000000 in
set_option maxRecDepth 100000 in
theorem met_clear (l : Launch) (G : GX) (sz : Nat) (lb : Nat) (f : Nat → Int64) (n : Nat) (hn : n ≤ 6) : Met l yX6_clear (ws_ yX6_clear cX6_clear 3 none) ({ frames := 0, cells := 0, slots := 0, locals := 0 }) (va_Pc [.ref lb, .int (nI n)] (wPre G (S_met_clear G lb f n) sz)) (Q_met_clear G lb f n (wA (S_met_clear G lb f n) sz)) 0 0 (wA (S_met_clear G lb f n) sz) := sorry
abbrev S_met_copy (G : GX) (a : Nat) (Na : Nat) (f : Nat → Int64) (b : Nat) (Nb : Nat) (t : Nat → Int64) (i : Nat) (j : Nat) : List va_W := [[(a, wL G Na f)], [(b, wL G Nb t)]]
abbrev Q_met_copy (G : GX) (a : Nat) (Na : Nat) (f : Nat → Int64) (b : Nat) (Nb : Nat) (t : Nat → Int64) (i : Nat) (j : Nat) (A : Nat → Prop) := wQv' G (fun (z : Unit) => True) (fun (z : Unit) => ([[(a, wL G Na f)], [(b, wL G Nb (va_cpy f t (208 * i) (208 * j) 208))]] : List va_W)) A
set_option maxHeartbeats 8000000 in
set_option maxRecDepth 100000 in
theorem met_copy (l : Launch) (G : GX) (sz : Nat) (a : Nat) (Na : Nat) (f : Nat → Int64) (b : Nat) (Nb : Nat) (t : Nat → Int64) (i : Nat) (j : Nat) (hi : 208 * i + 208 ≤ Na) (hj : 208 * j + 208 ≤ Nb) (hNa : Na ≤ 3000) (hNb : Nb ≤ 3000) : Met l yX6_copy (ws_ yX6_copy cX6_copy 5 none) ({ frames := 0, cells := 0, slots := 0, locals := 0 }) (va_Pc [.ref a, .int (nI i), .ref b, .int (nI j)] (wPre G (S_met_copy G a Na f b Nb t i j) sz)) (Q_met_copy G a Na f b Nb t i j (wA (S_met_copy G a Na f b Nb t i j) sz)) 0 0 (wA (S_met_copy G a Na f b Nb t i j) sz) := sorry
abbrev S_met_copyS (G : GX) (a : Nat) (Na : Nat) (f : Nat → Int64) (i : Nat) (j : Nat) : List va_W := [[(a, wL G Na f)]]
abbrev Q_met_copyS (G : GX) (a : Nat) (Na : Nat) (f : Nat → Int64) (i : Nat) (j : Nat) (A : Nat → Prop) := wQv' G (fun (z : Unit) => True) (fun (z : Unit) => ([[(a, wL G Na (va_cpy f f (208 * i) (208 * j) 208))]] : List va_W)) A
set_option maxHeartbeats 8000000 in
set_option maxRecDepth 100000 in
theorem met_copyS (l : Launch) (G : GX) (sz : Nat) (a : Nat) (Na : Nat) (f : Nat → Int64) (i : Nat) (j : Nat) (hi : 208 * i + 208 ≤ Na) (hj : j < i) (hNa : Na ≤ 3000) : Met l yX6_copy (ws_ yX6_copy cX6_copy 5 none) ({ frames := 0, cells := 0, slots := 0, locals := 0 }) (va_Pc [.ref a, .int (nI i), .ref a, .int (nI j)] (wPre G (S_met_copyS G a Na f i j) sz)) (Q_met_copyS G a Na f i j (wA (S_met_copyS G a Na f i j) sz)) 0 0 (wA (S_met_copyS G a Na f i j) sz) := sorry
abbrev S_met_removeLocked (G : GX) (o : Nat) (ad : Nat → Nat) (lb : Nat) (g : Nat → Int32) (f : Nat → Int64) (n : Nat) (q : Nat) (w : Nat) (u : Nat → Int64) (u0 : Nat → Int64) : List va_W := [[(o, wo 5 (mo ad lb g))], [(lb, wL G 208 f)], [(w, wL G 6 (sMap n u u0))]]
abbrev Q_met_removeLocked (G : GX) (o : Nat) (ad : Nat → Nat) (lb : Nat) (g : Nat → Int32) (f : Nat → Int64) (n : Nat) (q : Nat) (w : Nat) (u : Nat → Int64) (u0 : Nat → Int64) (A : Nat → Prop) := wQv' G (fun (z : Unit) => True) (fun (z : Unit) => ([[(o, wo 5 (mo ad lb g))], [(lb, wL G 208 f)], [(w, wL G 6 (sMap n (vLocks n f q u) u0))]] : List va_W)) A
set_option maxHeartbeats 8000000 in
set_option maxRecDepth 100000 in
theorem met_removeLocked (l : Launch) (G : GX) (sz : Nat) (o : Nat) (ad : Nat → Nat) (lb : Nat) (g : Nat → Int32) (f : Nat → Int64) (n : Nat) (q : Nat) (w : Nat) (u : Nat → Int64) (u0 : Nat → Int64) (h0 : f 0 = lN n) (h6 : f 6 = lN q) (hn : n ≤ 6) (hq : q ≤ 6) : Met l yX6_removeLocked (ws_ yX6_removeLocked cX6_removeLocked 3 none) ({ frames := 3, cells := 0, slots := 0, locals := 75 }) (va_Pc [.ref o, .ref w] (wPre G (S_met_removeLocked G o ad lb g f n q w u u0) sz)) (Q_met_removeLocked G o ad lb g f n q w u u0 (wA (S_met_removeLocked G o ad lb g f n q w u u0) sz)) 0 0 (wA (S_met_removeLocked G o ad lb g f n q w u u0) sz) := sorry
abbrev S_met_beginWithWork (G : GX) (o : Nat) (ad : Nat → Nat) (lb : Nat) (g : Nat → Int32) (f : Nat → Int64) (n : Nat) (q : Nat) (u : Nat → Int64) (u0 : Nat → Int64) : List va_W := [[(o, wo 5 (mo ad lb g))], [(lb, wL G 208 f)], [(ad 5, wL G 6 (sMap n u u0))]]
abbrev Q_met_beginWithWork (G : GX) (o : Nat) (ad : Nat → Nat) (lb : Nat) (g : Nat → Int32) (f : Nat → Int64) (n : Nat) (q : Nat) (u : Nat → Int64) (u0 : Nat → Int64) (A : Nat → Prop) := wQi' G (fun (r : Int32) (z : Nat → Int64) => r = if okBeg rootM n q f u then nI 1 else nI 0) (fun (z : Nat → Int64) => ([[(o, wo 5 (mo ad lb g))], [(lb, wL G 208 (fBeg rootM n q f u))], [(ad 5, wL G 6 (sMap n z u0))]] : List va_W)) A
set_option maxHeartbeats 8000000 in
set_option maxRecDepth 100000 in
theorem met_beginWithWork (l : Launch) (G : GX) (sz : Nat) (o : Nat) (ad : Nat → Nat) (lb : Nat) (g : Nat → Int32) (f : Nat → Int64) (n : Nat) (q : Nat) (u : Nat → Int64) (u0 : Nat → Int64) (h0 : f 0 = lN n) (h6 : f 6 = lN q) (hn : n ≤ 6) (hq : q ≤ 6) : Met l yX6_beginWithWork (ws_ yX6_beginWithWork cX6_beginWithWork 1 (some .boolean)) ({ frames := 4, cells := 0, slots := 0, locals := 97 }) (va_Pc [.ref o] (wPre G (S_met_beginWithWork G o ad lb g f n q u u0) sz)) (Q_met_beginWithWork G o ad lb g f n q u u0 (wA (S_met_beginWithWork G o ad lb g f n q u u0) sz)) 0 0 (wA (S_met_beginWithWork G o ad lb g f n q u u0) sz) := sorry
abbrev S_met_beginWithStart (G : GX) (o : Nat) (ad : Nat → Nat) (lb : Nat) (g : Nat → Int32) (f : Nat → Int64) (n : Nat) (q : Nat) (u0 : Nat → Int64) : List va_W := [[(o, wo 5 (mo ad lb g))], [(lb, wL G 208 f)], [(ad 5, wL G 6 u0)]]
abbrev Q_met_beginWithStart (G : GX) (o : Nat) (ad : Nat → Nat) (lb : Nat) (g : Nat → Int32) (f : Nat → Int64) (n : Nat) (q : Nat) (u0 : Nat → Int64) (A : Nat → Prop) := wQi' G (fun (r : Int32) (z : Nat → Int64) => r = if okBeg rootM n q f (vStart f) then nI 1 else nI 0) (fun (z : Nat → Int64) => ([[(o, wo 5 (mo ad lb g))], [(lb, wL G 208 (fBeg rootM n q f (vStart f)))], [(ad 5, wL G 6 (sMap n z u0))]] : List va_W)) A
set_option maxHeartbeats 8000000 in
set_option maxRecDepth 100000 in
theorem met_beginWithStart (l : Launch) (G : GX) (sz : Nat) (o : Nat) (ad : Nat → Nat) (lb : Nat) (g : Nat → Int32) (f : Nat → Int64) (n : Nat) (q : Nat) (u0 : Nat → Int64) (h0 : f 0 = lN n) (h6 : f 6 = lN q) (hn : n ≤ 6) (hq : q ≤ 6) : Met l yX6_beginWithStart (ws_ yX6_beginWithStart cX6_beginWithStart 2 (some .boolean)) ({ frames := 5, cells := 0, slots := 0, locals := 117 }) (va_Pc [.ref o] (wPre G (S_met_beginWithStart G o ad lb g f n q u0) sz)) (Q_met_beginWithStart G o ad lb g f n q u0 (wA (S_met_beginWithStart G o ad lb g f n q u0) sz)) 0 0 (wA (S_met_beginWithStart G o ad lb g f n q u0) sz) := sorry
end
section
abbrev S_met_canStep (G : GX) (o : Nat) (ad : Nat → Nat) (lb : Nat) (g : Nat → Int32) (f : Nat → Int64) (n : Nat) (m : Nat) : List va_W := [[(o, wo 5 (mo ad lb g))], [(lb, wL G 208 f)]]
abbrev Q_met_canStep (G : GX) (o : Nat) (ad : Nat → Nat) (lb : Nat) (g : Nat → Int32) (f : Nat → Int64) (n : Nat) (m : Nat) (A : Nat → Prop) := wQi' G (fun (r : Int32) (z : Unit) => r = if f 5 = 0 ∧ m < n then nI 1 else nI 0) (fun (z : Unit) => ([[(o, wo 5 (mo ad lb g))], [(lb, wL G 208 f)]] : List va_W)) A
set_option maxHeartbeats 8000000 in
set_option maxRecDepth 100000 in
theorem met_canStep (l : Launch) (G : GX) (sz : Nat) (o : Nat) (ad : Nat → Nat) (lb : Nat) (g : Nat → Int32) (f : Nat → Int64) (n : Nat) (m : Nat) (h0 : f 0 = lN n) (h4 : f 4 = lN m) (hn : n ≤ 6) (hm : m ≤ 6) : Met l yX6_canStep (ws_ yX6_canStep cX6_canStep 1 (some .boolean)) ({ frames := 1, cells := 0, slots := 0, locals := 20 }) (va_Pc [.ref o] (wPre G (S_met_canStep G o ad lb g f n m) sz)) (Q_met_canStep G o ad lb g f n m (wA (S_met_canStep G o ad lb g f n m) sz)) 0 0 (wA (S_met_canStep G o ad lb g f n m) sz) := sorry
abbrev S_met_vectors (G : GX) (o : Nat) (ad : Nat → Nat) (lb : Nat) (g : Nat → Int32) (f : Nat → Int64) (m : Nat) : List va_W := [[(o, wo 5 (mo ad lb g))], [(lb, wL G 208 f)]]
abbrev Q_met_vectors (G : GX) (o : Nat) (ad : Nat → Nat) (lb : Nat) (g : Nat → Int32) (f : Nat → Int64) (m : Nat) (A : Nat → Prop) := wQi' G (fun (r : Int32) (z : Unit) => r = nI (m + (if f 5 = 1 then 0 else 1))) (fun (z : Unit) => ([[(o, wo 5 (mo ad lb g))], [(lb, wL G 208 f)]] : List va_W)) A
set_option maxHeartbeats 8000000 in
set_option maxRecDepth 100000 in
theorem met_vectors (l : Launch) (G : GX) (sz : Nat) (o : Nat) (ad : Nat → Nat) (lb : Nat) (g : Nat → Int32) (f : Nat → Int64) (m : Nat) (h4 : f 4 = lN m) (hm : m ≤ 6) : Met l yX6_vectors (ws_ yX6_vectors cX6_vectors 1 (some .int)) ({ frames := 1, cells := 0, slots := 0, locals := 20 }) (va_Pc [.ref o] (wPre G (S_met_vectors G o ad lb g f m) sz)) (Q_met_vectors G o ad lb g f m (wA (S_met_vectors G o ad lb g f m) sz)) 0 0 (wA (S_met_vectors G o ad lb g f m) sz) := sorry
abbrev S_met_isPlace (G : GX) (o : Nat) (ad : Nat → Nat) (lb : Nat) (g : Nat → Int32) (f : Nat → Int64) (n : Nat) (x : Int32) : List va_W := [[(o, wo 5 (mo ad lb g))], [(lb, wL G 208 f)]]
abbrev Q_met_isPlace (G : GX) (o : Nat) (ad : Nat → Nat) (lb : Nat) (g : Nat → Int32) (f : Nat → Int64) (n : Nat) (x : Int32) (A : Nat → Prop) := wQi' G (fun (r : Int32) (z : Unit) => r = if 0 ≤ x ∧ x < nI n then nI 1 else nI 0) (fun (z : Unit) => ([[(o, wo 5 (mo ad lb g))], [(lb, wL G 208 f)]] : List va_W)) A
set_option maxHeartbeats 8000000 in
set_option maxRecDepth 100000 in
theorem met_isPlace (l : Launch) (G : GX) (sz : Nat) (o : Nat) (ad : Nat → Nat) (lb : Nat) (g : Nat → Int32) (f : Nat → Int64) (n : Nat) (x : Int32) (h0 : f 0 = lN n) (hn : n ≤ 6) : Met l yX6_isPlace (ws_ yX6_isPlace cX6_isPlace 2 (some .boolean)) ({ frames := 1, cells := 0, slots := 0, locals := 25 }) (va_Pc [.ref o, .int x] (wPre G (S_met_isPlace G o ad lb g f n x) sz)) (Q_met_isPlace G o ad lb g f n x (wA (S_met_isPlace G o ad lb g f n x) sz)) 0 0 (wA (S_met_isPlace G o ad lb g f n x) sz) := sorry
abbrev S_met_isRitz (G : GX) (o : Nat) (ad : Nat → Nat) (lb : Nat) (g : Nat → Int32) (f : Nat → Int64) (m : Nat) (x : Int32) : List va_W := [[(o, wo 5 (mo ad lb g))], [(lb, wL G 208 f)]]
abbrev Q_met_isRitz (G : GX) (o : Nat) (ad : Nat → Nat) (lb : Nat) (g : Nat → Int32) (f : Nat → Int64) (m : Nat) (x : Int32) (A : Nat → Prop) := wQi' G (fun (r : Int32) (z : Unit) => r = if 0 ≤ x ∧ x < nI m then nI 1 else nI 0) (fun (z : Unit) => ([[(o, wo 5 (mo ad lb g))], [(lb, wL G 208 f)]] : List va_W)) A
set_option maxHeartbeats 8000000 in
set_option maxRecDepth 100000 in
theorem met_isRitz (l : Launch) (G : GX) (sz : Nat) (o : Nat) (ad : Nat → Nat) (lb : Nat) (g : Nat → Int32) (f : Nat → Int64) (m : Nat) (x : Int32) (h4 : f 4 = lN m) (hm : m ≤ 6) : Met l yX6_isRitz (ws_ yX6_isRitz cX6_isRitz 2 (some .boolean)) ({ frames := 1, cells := 0, slots := 0, locals := 25 }) (va_Pc [.ref o, .int x] (wPre G (S_met_isRitz G o ad lb g f m x) sz)) (Q_met_isRitz G o ad lb g f m x (wA (S_met_isRitz G o ad lb g f m x) sz)) 0 0 (wA (S_met_isRitz G o ad lb g f m x) sz) := sorry
abbrev S_met_isVector (G : GX) (o : Nat) (ad : Nat → Nat) (lb : Nat) (g : Nat → Int32) (f : Nat → Int64) (m : Nat) (x : Int32) : List va_W := [[(o, wo 5 (mo ad lb g))], [(lb, wL G 208 f)]]
abbrev Q_met_isVector (G : GX) (o : Nat) (ad : Nat → Nat) (lb : Nat) (g : Nat → Int32) (f : Nat → Int64) (m : Nat) (x : Int32) (A : Nat → Prop) := wQi' G (fun (r : Int32) (z : Unit) => r = if 0 ≤ x ∧ x < nI (m + (if f 5 = 1 then 0 else 1)) then nI 1 else nI 0) (fun (z : Unit) => ([[(o, wo 5 (mo ad lb g))], [(lb, wL G 208 f)]] : List va_W)) A
set_option maxHeartbeats 8000000 in
set_option maxRecDepth 100000 in
theorem met_isVector (l : Launch) (G : GX) (sz : Nat) (o : Nat) (ad : Nat → Nat) (lb : Nat) (g : Nat → Int32) (f : Nat → Int64) (m : Nat) (x : Int32) (h4 : f 4 = lN m) (hm : m ≤ 6) : Met l yX6_isVector (ws_ yX6_isVector cX6_isVector 2 (some .boolean)) ({ frames := 2, cells := 0, slots := 0, locals := 40 }) (va_Pc [.ref o, .int x] (wPre G (S_met_isVector G o ad lb g f m x) sz)) (Q_met_isVector G o ad lb g f m x (wA (S_met_isVector G o ad lb g f m x) sz)) 0 0 (wA (S_met_isVector G o ad lb g f m x) sz) := sorry
abbrev S_met_close (G : GX) (o : Nat) (ad : Nat → Nat) (lb : Nat) (g : Nat → Int32) (f : Nat → Int64) (m : Nat) : List va_W := [[(o, wo 5 (mo ad lb g))], [(lb, wL G 208 f)]]
abbrev Q_met_close (G : GX) (o : Nat) (ad : Nat → Nat) (lb : Nat) (g : Nat → Int32) (f : Nat → Int64) (m : Nat) (A : Nat → Prop) := wQv' G (fun (z : Unit) => True) (fun (z : Unit) => ([[(o, wo 5 (mo ad lb g))], [(lb, wL G 208 (fClose f m))]] : List va_W)) A
set_option maxHeartbeats 8000000 in
set_option maxRecDepth 100000 in
theorem met_close (l : Launch) (G : GX) (sz : Nat) (o : Nat) (ad : Nat → Nat) (lb : Nat) (g : Nat → Int32) (f : Nat → Int64) (m : Nat) (hm : m ≤ 6) : Met l yX6_close (ws_ yX6_close cX6_close 2 none) ({ frames := 0, cells := 0, slots := 0, locals := 0 }) (va_Pc [.ref o, .int (nI m)] (wPre G (S_met_close G o ad lb g f m) sz)) (Q_met_close G o ad lb g f m (wA (S_met_close G o ad lb g f m) sz)) 0 0 (wA (S_met_close G o ad lb g f m) sz) := sorry
abbrev S_met_bounded (G : GX) (v : Int64) (t : Int64) : List va_W := []
abbrev Q_met_bounded (G : GX) (v : Int64) (t : Int64) (A : Nat → Prop) := wQl' G (fun (r : Int64) (z : Unit) => r = sBound v t) (fun (z : Unit) => ([] : List va_W)) A
set_option maxHeartbeats 8000000 in
set_option maxRecDepth 100000 in
theorem met_bounded (l : Launch) (G : GX) (sz : Nat) (v : Int64) (t : Int64)  : Met l yX6_bounded (ws_ yX6_bounded cX6_bounded 4 (some .long)) ({ frames := 1, cells := 0, slots := 0, locals := 40 }) (va_Pc [.long v, .long t] (wPre G (S_met_bounded G v t) sz)) (Q_met_bounded G v t (wA (S_met_bounded G v t) sz)) 0 0 (wA (S_met_bounded G v t) sz) := sorry
abbrev S_met_told (G : GX) (o : Nat) (ad : Nat → Nat) (lb : Nat) (g : Nat → Int32) (f : Nat → Int64) (x : Int32) (y : Int32) : List va_W := [[(o, wo 5 (mo ad lb g))], [(lb, wL G 208 f)]]
abbrev Q_met_told (G : GX) (o : Nat) (ad : Nat → Nat) (lb : Nat) (g : Nat → Int32) (f : Nat → Int64) (x : Int32) (y : Int32) (A : Nat → Prop) := wQl' G (fun (r : Int64) (z : Unit) => r = sTold f x y) (fun (z : Unit) => ([[(o, wo 5 (mo ad lb g))], [(lb, wL G 208 f)]] : List va_W)) A
set_option maxHeartbeats 8000000 in
set_option maxRecDepth 100000 in
theorem met_told (l : Launch) (G : GX) (sz : Nat) (o : Nat) (ad : Nat → Nat) (lb : Nat) (g : Nat → Int32) (f : Nat → Int64) (x : Int32) (y : Int32) (hx6 : x < nI 7) : Met l yX6_told (ws_ yX6_told cX6_told 3 (some .long)) ({ frames := 0, cells := 0, slots := 0, locals := 0 }) (va_Pc [.ref o, .int x, .int y] (wPre G (S_met_told G o ad lb g f x y) sz)) (Q_met_told G o ad lb g f x y (wA (S_met_told G o ad lb g f x y) sz)) 0 0 (wA (S_met_told G o ad lb g f x y) sz) := sorry
abbrev S_met_betaOr0 (G : GX) (o : Nat) (ad : Nat → Nat) (lb : Nat) (g : Nat → Int32) (f : Nat → Int64) (x : Int32) : List va_W := [[(o, wo 5 (mo ad lb g))], [(lb, wL G 208 f)]]
abbrev Q_met_betaOr0 (G : GX) (o : Nat) (ad : Nat → Nat) (lb : Nat) (g : Nat → Int32) (f : Nat → Int64) (x : Int32) (A : Nat → Prop) := wQl' G (fun (r : Int64) (z : Unit) => r = sBeta0 f x) (fun (z : Unit) => ([[(o, wo 5 (mo ad lb g))], [(lb, wL G 208 f)]] : List va_W)) A
set_option maxHeartbeats 8000000 in
set_option maxRecDepth 100000 in
theorem met_betaOr0 (l : Launch) (G : GX) (sz : Nat) (o : Nat) (ad : Nat → Nat) (lb : Nat) (g : Nat → Int32) (f : Nat → Int64) (x : Int32) (hx6 : x < nI 7) : Met l yX6_betaOr0 (ws_ yX6_betaOr0 cX6_betaOr0 2 (some .long)) ({ frames := 0, cells := 0, slots := 0, locals := 0 }) (va_Pc [.ref o, .int x] (wPre G (S_met_betaOr0 G o ad lb g f x) sz)) (Q_met_betaOr0 G o ad lb g f x (wA (S_met_betaOr0 G o ad lb g f x) sz)) 0 0 (wA (S_met_betaOr0 G o ad lb g f x) sz) := sorry
theorem sAt_8 {f : Nat → Int64} {x : Int64} {a : Nat} (h : 8 < a) : sAt (vp_updL f 8 x) a = sAt f a := sorry
theorem uL_self {f : Nat → Int64} {k : Nat} {x : Int64} (h : x = f k) : vp_updL f k x = f := sorry
abbrev S_met_purge (G : GX) (o : Nat) (ad : Nat → Nat) (lb : Nat) (g : Nat → Int32) (f : Nat → Int64) (n : Nat) (q : Nat) (u : Nat → Int64) (u0 : Nat → Int64) : List va_W := [[(o, wo 5 (mo ad lb g))], [(lb, wL G 208 f)], [(ad 5, wL G 6 (sMap n u u0))]]
abbrev Q_met_purge (G : GX) (o : Nat) (ad : Nat → Nat) (lb : Nat) (g : Nat → Int32) (f : Nat → Int64) (n : Nat) (q : Nat) (u : Nat → Int64) (u0 : Nat → Int64) (A : Nat → Prop) := wQv' G (fun (z : Unit) => True) (fun (z : Unit) => ([[(o, wo 5 (mo ad lb g))], [(lb, wL G 208 (vp_updL f 8 (nPurge n f u q)))], [(ad 5, wL G 6 (sMap n (vPurge n f u q) u0))]] : List va_W)) A
set_option maxHeartbeats 8000000 in
set_option maxRecDepth 100000 in
theorem met_purge (l : Launch) (G : GX) (sz : Nat) (o : Nat) (ad : Nat → Nat) (lb : Nat) (g : Nat → Int32) (f : Nat → Int64) (n : Nat) (q : Nat) (u : Nat → Int64) (u0 : Nat → Int64) (h0 : f 0 = lN n) (h6 : f 6 = lN q) (hn : n ≤ 6) (hq : q ≤ 6) : Met l yX6_purge (ws_ yX6_purge cX6_purge 3 none) ({ frames := 3, cells := 0, slots := 0, locals := 75 }) (va_Pc [.ref o] (wPre G (S_met_purge G o ad lb g f n q u u0) sz)) (Q_met_purge G o ad lb g f n q u u0 (wA (S_met_purge G o ad lb g f n q u u0) sz)) 0 0 (wA (S_met_purge G o ad lb g f n q u u0) sz) := sorry
theorem nI_m1_lt {k : Nat} (h : k < 7) : nI k - nI 1 < nI 7 := sorry
theorem sTold_congr {f g : Nat → Int64} {x y : Int32} {B : Nat} (h : ∀ j, j < B → g j = f j) (hx : x < nI 7) (hB : 108 + 7 * x.toNatClampNeg + x.toNatClampNeg ≤ B) : sTold g x y = sTold f x y := sorry
theorem sBeta0_congr {f g : Nat → Int64} {x : Int32} (h : ∀ j, j < 109 → g j = f j) (hx : x < nI 7) : sBeta0 g x = sBeta0 f x := sorry
abbrev S_met_estimateAll (G : GX) (o : Nat) (ad : Nat → Nat) (lb : Nat) (g : Nat → Int32) (f : Nat → Int64) (m : Nat) (b : Int64) : List va_W := [[(o, wo 5 (mo ad lb g))], [(lb, wL G 208 f)]]
abbrev Q_met_estimateAll (G : GX) (o : Nat) (ad : Nat → Nat) (lb : Nat) (g : Nat → Int32) (f : Nat → Int64) (m : Nat) (b : Int64) (A : Nat → Prop) := wQv' G (fun (z : Unit) => True) (fun (z : Unit) => ([[(o, wo 5 (mo ad lb g))], [(lb, wL G 208 (fEst f m b))]] : List va_W)) A
set_option maxHeartbeats 8000000 in
set_option maxRecDepth 100000 in
theorem met_estimateAll (l : Launch) (G : GX) (sz : Nat) (o : Nat) (ad : Nat → Nat) (lb : Nat) (g : Nat → Int32) (f : Nat → Int64) (m : Nat) (b : Int64) (hm : m ≤ 5) (hb0 : ¬ b = 0) : Met l yX6_estimateAll (ws_ yX6_estimateAll cX6_estimateAll 7 none) ({ frames := 2, cells := 0, slots := 0, locals := 63 }) (va_Pc [.ref o, .int (nI m), .long b] (wPre G (S_met_estimateAll G o ad lb g f m b) sz)) (Q_met_estimateAll G o ad lb g f m b (wA (S_met_estimateAll G o ad lb g f m b) sz)) 0 0 (wA (S_met_estimateAll G o ad lb g f m b) sz) := sorry
end
section
abbrev S_met_repair (G : GX) (o : Nat) (ad : Nat → Nat) (lb : Nat) (g : Nat → Int32) (f : Nat → Int64) (n : Nat) (m : Nat) (u : Nat → Int64) (u0 : Nat → Int64) : List va_W := [[(o, wo 5 (mo ad lb g))], [(lb, wL G 208 f)], [(ad 5, wL G 6 (sMap n u u0))]]
abbrev Q_met_repair (G : GX) (o : Nat) (ad : Nat → Nat) (lb : Nat) (g : Nat → Int32) (f : Nat → Int64) (n : Nat) (m : Nat) (u : Nat → Int64) (u0 : Nat → Int64) (A : Nat → Prop) := wQi' G (fun (r : Int32) (z : Unit) => r = (if bRep f m (m + 1) = true then nI 1 else nI 0)) (fun (z : Unit) => ([[(o, wo 5 (mo ad lb g))], [(lb, wL G 208 (fRep f m (m + 1)))], [(ad 5, wL G 6 (sMap n (vRep n f m u (m + 1)) u0))]] : List va_W)) A
set_option maxHeartbeats 8000000 in
set_option maxRecDepth 100000 in
theorem met_repair (l : Launch) (G : GX) (sz : Nat) (o : Nat) (ad : Nat → Nat) (lb : Nat) (g : Nat → Int32) (f : Nat → Int64) (n : Nat) (m : Nat) (u : Nat → Int64) (u0 : Nat → Int64) (h0 : f 0 = lN n) (hn : n ≤ 6) (hm : m ≤ 5) : Met l yX6_repair (ws_ yX6_repair cX6_repair 5 (some .boolean)) ({ frames := 3, cells := 0, slots := 0, locals := 75 }) (va_Pc [.ref o, .int (nI m)] (wPre G (S_met_repair G o ad lb g f n m u u0) sz)) (Q_met_repair G o ad lb g f n m u u0 (wA (S_met_repair G o ad lb g f n m u u0) sz)) 0 0 (wA (S_met_repair G o ad lb g f n m u u0) sz) := sorry
theorem fSt1_at {f : Nat → Int64} {j : Nat} (h : j ≠ 4) (h7 : j ≠ 7) : fSt1 f j = f j := sorry
theorem fSt2_at {n : Nat} {f : Nat → Int64} {m j : Nat} (h : j ≠ 4) (h7 : j ≠ 7) (h9 : j ≠ 96 + m) : fSt2 n f m j = f j := sorry
theorem fSt3_at {n q : Nat} {f : Nat → Int64} {m j : Nat} (h : j ≠ 4) (h7 : j ≠ 7) (h8 : j ≠ 8) (h9 : j ≠ 96 + m) : fSt3 n q f m j = f j := sorry
theorem fSt4_at {R : Int64 → Int64} {n q : Nat} {f : Nat → Int64} {m j : Nat} (h : j ≠ 4) (h7 : j ≠ 7) (h8 : j ≠ 8) (h9 : j ≠ 96 + m) (h10 : j < 108 + 7 * (m + 1) ∨ 108 + 7 * (m + 1) + m < j) : fSt4 R n q f m j = f j := sorry
theorem fSt5_at {R : Int64 → Int64} {n q : Nat} {f : Nat → Int64} {m j : Nat} (h : j ≠ 4) (h7 : j ≠ 7) (h8 : j ≠ 8) (h90 : j ≠ 9) (h9 : j ≠ 96 + m) (h10 : j < 108 + 7 * (m + 1) ∨ 108 + 7 * (m + 1) + m < j) : fSt5 R n q f m j = f j := sorry
theorem fStep_1 {R : Int64 → Int64} {n q : Nat} {f : Nat → Int64} {m : Nat} (h : sNorm R n (vSt3 n q f m) < 1000) : fStep R n q f m = fClose (fSt3 n q f m) m := sorry
theorem fStep_2 {R : Int64 → Int64} {n q : Nat} {f : Nat → Int64} {m : Nat} (h : 1000 ≤ sNorm R n (vSt3 n q f m)) (h2 : nSt5 R n q f m < 1000) : fStep R n q f m = fClose (fSt5 R n q f m) m := sorry
theorem fStep_3 {R : Int64 → Int64} {n q : Nat} {f : Nat → Int64} {m : Nat} (h : 1000 ≤ sNorm R n (vSt3 n q f m)) (h2 : 1000 ≤ nSt5 R n q f m) : fStep R n q f m = sPut n (vUnit R n (vSt5 R n q f m)) (54 + 6 * (m + 1)) (vp_updL (fSt5 R n q f m) (102 + m) (nSt5 R n q f m)) := sorry
abbrev S_met_makeStep (G : GX) (o : Nat) (ad : Nat → Nat) (lb : Nat) (g : Nat → Int32) (f : Nat → Int64) (n : Nat) (m : Nat) (q : Nat) (u0 : Nat → Int64) : List va_W := [[(o, wo 5 (mo ad lb g))], [(lb, wL G 208 f)], [(ad 5, wL G 6 u0)]]
abbrev Q_met_makeStep (G : GX) (o : Nat) (ad : Nat → Nat) (lb : Nat) (g : Nat → Int32) (f : Nat → Int64) (n : Nat) (m : Nat) (q : Nat) (u0 : Nat → Int64) (A : Nat → Prop) := wQv' G (fun (z : Nat → Int64) => True) (fun (z : Nat → Int64) => ([[(o, wo 5 (mo ad lb g))], [(lb, wL G 208 (fStep rootM n q f m))], [(ad 5, wL G 6 (sMap n z u0))]] : List va_W)) A
set_option maxHeartbeats 8000000 in
set_option maxRecDepth 100000 in
theorem met_makeStep (l : Launch) (G : GX) (sz : Nat) (o : Nat) (ad : Nat → Nat) (lb : Nat) (g : Nat → Int32) (f : Nat → Int64) (n : Nat) (m : Nat) (q : Nat) (u0 : Nat → Int64) (h0 : f 0 = lN n) (h4 : f 4 = lN m) (h6 : f 6 = lN q) (hn : n ≤ 6) (hq : q ≤ 6) (hm : m ≤ 5) : Met l yX6_makeStep (ws_ yX6_makeStep cX6_makeStep 4 none) ({ frames := 4, cells := 0, slots := 0, locals := 99 }) (va_Pc [.ref o] (wPre G (S_met_makeStep G o ad lb g f n m q u0) sz)) (Q_met_makeStep G o ad lb g f n m q u0 (wA (S_met_makeStep G o ad lb g f n m q u0) sz)) 0 0 (wA (S_met_makeStep G o ad lb g f n m q u0) sz) := sorry
end
section
theorem fClose_at {f : Nat → Int64} {m j : Nat} (h : j ≠ 5) (h2 : j ≠ 102 + m) : fClose f m j = f j := sorry
theorem fStep_at {R : Int64 → Int64} {n q : Nat} {f : Nat → Int64} {m j : Nat} (hm : m ≤ 5) (hn : n ≤ 6) (h4 : j ≠ 4) (h5 : j ≠ 5) (h7 : j ≠ 7) (h8 : j ≠ 8) (h9 : j ≠ 9) (h : j < 54 ∨ 157 ≤ j) : fStep R n q f m j = f j := sorry
theorem fSt3_4 {n q : Nat} {f : Nat → Int64} {m : Nat} : fSt3 n q f m 4 = f 4 + 1 := sorry
theorem fSt5_4 {R : Int64 → Int64} {n q : Nat} {f : Nat → Int64} {m : Nat} : fSt5 R n q f m 4 = f 4 + 1 := sorry
theorem fStep_4 {R : Int64 → Int64} {n q : Nat} {f : Nat → Int64} {m : Nat} : fStep R n q f m 4 = f 4 + 1 := sorry
/-- up to t steps: the row, their number -/
def fSteps (R : Int64 → Int64) (n q : Nat) : Nat → (Nat → Int64) → Nat → (Nat → Int64)
  | 0, f, _ => f
  | t + 1, f, m => if f 5 = 0 ∧ m < n then fSteps R n q t (fStep R n q f m) (m + 1) else f
def nSteps (R : Int64 → Int64) (n q : Nat) : Nat → (Nat → Int64) → Nat → Nat
  | 0, _, _ => 0
  | t + 1, f, m => if f 5 = 0 ∧ m < n then nSteps R n q t (fStep R n q f m) (m + 1) + 1 else 0

abbrev S_met_makeSteps (G : GX) (o : Nat) (ad : Nat → Nat) (lb : Nat) (g : Nat → Int32) (f : Nat → Int64) (n : Nat) (m : Nat) (q : Nat) (t : Nat) (u0 : Nat → Int64) : List va_W := [[(o, wo 5 (mo ad lb g))], [(lb, wL G 208 f)], [(ad 5, wL G 6 u0)]]
abbrev Q_met_makeSteps (G : GX) (o : Nat) (ad : Nat → Nat) (lb : Nat) (g : Nat → Int32) (f : Nat → Int64) (n : Nat) (m : Nat) (q : Nat) (t : Nat) (u0 : Nat → Int64) (A : Nat → Prop) := wQi' G (fun (r : Int32) (z : Nat → Int64) => r = nI (nSteps rootM n q t f m)) (fun (z : Nat → Int64) => ([[(o, wo 5 (mo ad lb g))], [(lb, wL G 208 (fSteps rootM n q t f m))], [(ad 5, wL G 6 z)]] : List va_W)) A
set_option maxHeartbeats 8000000 in
set_option maxRecDepth 100000 in
theorem met_makeSteps (l : Launch) (G : GX) (sz : Nat) (o : Nat) (ad : Nat → Nat) (lb : Nat) (g : Nat → Int32) (f : Nat → Int64) (n : Nat) (m : Nat) (q : Nat) (t : Nat) (u0 : Nat → Int64) (h0 : f 0 = lN n) (h4 : f 4 = lN m) (h6 : f 6 = lN q) (hn : n ≤ 6) (hq : q ≤ 6) (hm : m ≤ n) (ht : t ≤ 1000) : Met l yX6_makeSteps (ws_ yX6_makeSteps cX6_makeSteps 3 (some .int)) ({ frames := 5, cells := 0, slots := 0, locals := 122 }) (va_Pc [.ref o, .int (nI t)] (wPre G (S_met_makeSteps G o ad lb g f n m q t u0) sz)) (Q_met_makeSteps G o ad lb g f n m q t u0 (wA (S_met_makeSteps G o ad lb g f n m q t u0) sz)) 0 0 (wA (S_met_makeSteps G o ad lb g f n m q t u0) sz) := sorry
theorem sCnt_t {f : Nat → Int64} {x d : Int64} {k : Nat} (h : sBef f x (k + 1) = d) (h2 : ¬ 0 ≤ d) : sCnt f x (k + 1) = sCnt f x k + 1 := sorry
theorem sCnt_f {f : Nat → Int64} {x d : Int64} {k : Nat} (h : sBef f x (k + 1) = d) (h2 : 0 ≤ d) : sCnt f x (k + 1) = sCnt f x k + 0 := sorry
abbrev S_met_countUnder (G : GX) (o : Nat) (ad : Nat → Nat) (lb : Nat) (g : Nat → Int32) (f : Nat → Int64) (m : Nat) (x : Int64) : List va_W := [[(o, wo 5 (mo ad lb g))], [(lb, wL G 208 f)]]
abbrev Q_met_countUnder (G : GX) (o : Nat) (ad : Nat → Nat) (lb : Nat) (g : Nat → Int32) (f : Nat → Int64) (m : Nat) (x : Int64) (A : Nat → Prop) := wQi' G (fun (r : Int32) (z : Unit) => r = nI (sCnt f x m)) (fun (z : Unit) => ([[(o, wo 5 (mo ad lb g))], [(lb, wL G 208 f)]] : List va_W)) A
set_option maxHeartbeats 8000000 in
set_option maxRecDepth 100000 in
theorem met_countUnder (l : Launch) (G : GX) (sz : Nat) (o : Nat) (ad : Nat → Nat) (lb : Nat) (g : Nat → Int32) (f : Nat → Int64) (m : Nat) (x : Int64) (h4 : f 4 = lN m) (hm : m ≤ 6) : Met l yX6_countUnder (ws_ yX6_countUnder cX6_countUnder 9 (some .int)) ({ frames := 1, cells := 0, slots := 0, locals := 25 }) (va_Pc [.ref o, .long x] (wPre G (S_met_countUnder G o ad lb g f m x) sz)) (Q_met_countUnder G o ad lb g f m x (wA (S_met_countUnder G o ad lb g f m x) sz)) 0 0 (wA (S_met_countUnder G o ad lb g f m x) sz) := sorry
theorem i_fD2 {a : Int64} (h1 : -4000000000 ≤ a.toInt) (h2 : a.toInt ≤ 4000000000) : (fD a 2).toInt = a.toInt / 2 := sorry
theorem sBis_mid {lo hi : Int64} (h : ¬ hi ≤ lo) (h1 : -700000000 ≤ lo.toInt) (h2 : hi.toInt ≤ 700000000) : lo.toInt ≤ (fD (lo + hi) 2).toInt ∧ (fD (lo + hi) 2).toInt < hi.toInt ∧ (fD (lo + hi) 2 + 1).toInt = (fD (lo + hi) 2).toInt + 1 := sorry
theorem sBis_1 {c : Int64 → Nat} {k n : Nat} {lo hi r : Int64} (hv : sBis c k (n + 1) lo hi = r) (h : ¬ hi ≤ lo) (h2 : k < c (fD (lo + hi) 2)) : sBis c k n lo (fD (lo + hi) 2) = r := sorry
theorem sBis_2 {c : Int64 → Nat} {k n : Nat} {lo hi r : Int64} (hv : sBis c k (n + 1) lo hi = r) (h : ¬ hi ≤ lo) (h2 : c (fD (lo + hi) 2) ≤ k) : sBis c k n (fD (lo + hi) 2 + 1) hi = r := sorry
theorem sBis_3 {c : Int64 → Nat} {k n : Nat} {lo hi r : Int64} (hv : sBis c k (n + 1) lo hi = r) (h : hi ≤ lo) : lo = r := sorry
abbrev S_met_ritzValue (G : GX) (o : Nat) (ad : Nat → Nat) (lb : Nat) (g : Nat → Int32) (f : Nat → Int64) (m : Nat) (k : Nat) : List va_W := [[(o, wo 5 (mo ad lb g))], [(lb, wL G 208 f)]]
abbrev Q_met_ritzValue (G : GX) (o : Nat) (ad : Nat → Nat) (lb : Nat) (g : Nat → Int32) (f : Nat → Int64) (m : Nat) (k : Nat) (A : Nat → Prop) := wQl' G (fun (r : Int64) (z : Unit) => r = sVal f m k) (fun (z : Unit) => ([[(o, wo 5 (mo ad lb g))], [(lb, wL G 208 f)]] : List va_W)) A
set_option maxHeartbeats 8000000 in
set_option maxRecDepth 100000 in
theorem met_ritzValue (l : Launch) (G : GX) (sz : Nat) (o : Nat) (ad : Nat → Nat) (lb : Nat) (g : Nat → Int32) (f : Nat → Int64) (m : Nat) (k : Nat) (h4 : f 4 = lN m) (hm : m ≤ 6) (hk : k ≤ 6) : Met l yX6_ritzValue (ws_ yX6_ritzValue cX6_ritzValue 8 (some .long)) ({ frames := 2, cells := 0, slots := 0, locals := 53 }) (va_Pc [.ref o, .int (nI k)] (wPre G (S_met_ritzValue G o ad lb g f m k) sz)) (Q_met_ritzValue G o ad lb g f m k (wA (S_met_ritzValue G o ad lb g f m k) sz)) 0 0 (wA (S_met_ritzValue G o ad lb g f m k) sz) := sorry
end
section
abbrev S_met_layShares (G : GX) (o : Nat) (ad : Nat → Nat) (lb : Nat) (g : Nat → Int32) (f : Nat → Int64) (m : Nat) (t : Int64) (u0 : Nat → Int64) : List va_W := [[(o, wo 5 (mo ad lb g))], [(lb, wL G 208 f)], [(ad 8, wL G 6 u0)]]
abbrev Q_met_layShares (G : GX) (o : Nat) (ad : Nat → Nat) (lb : Nat) (g : Nat → Int32) (f : Nat → Int64) (m : Nat) (t : Int64) (u0 : Nat → Int64) (A : Nat → Prop) := wQv' G (fun (z : Unit) => True) (fun (z : Unit) => ([[(o, wo 5 (mo ad lb g))], [(lb, wL G 208 f)], [(ad 8, wL G 6 (sMap m (sSh f t) u0))]] : List va_W)) A
set_option maxHeartbeats 8000000 in
set_option maxRecDepth 100000 in
theorem met_layShares (l : Launch) (G : GX) (sz : Nat) (o : Nat) (ad : Nat → Nat) (lb : Nat) (g : Nat → Int32) (f : Nat → Int64) (m : Nat) (t : Int64) (u0 : Nat → Int64) (h4 : f 4 = lN m) (hm : m ≤ 6) (h1m : 1 ≤ m) (hbt : ∀ j, j + 1 < m → ¬ f (102 + j) = 0) : Met l yX6_layShares (ws_ yX6_layShares cX6_layShares 6 none) ({ frames := 2, cells := 0, slots := 0, locals := 63 }) (va_Pc [.ref o, .long t] (wPre G (S_met_layShares G o ad lb g f m t u0) sz)) (Q_met_layShares G o ad lb g f m t u0 (wA (S_met_layShares G o ad lb g f m t u0) sz)) 0 0 (wA (S_met_layShares G o ad lb g f m t u0) sz) := sorry
abbrev S_met_boundNow (G : GX) (o : Nat) (ad : Nat → Nat) (lb : Nat) (g : Nat → Int32) (f : Nat → Int64) (m : Nat) (u : Nat → Int64) (u0 : Nat → Int64) : List va_W := [[(o, wo 5 (mo ad lb g))], [(lb, wL G 208 f)], [(ad 8, wL G 6 (sMap m u u0))]]
abbrev Q_met_boundNow (G : GX) (o : Nat) (ad : Nat → Nat) (lb : Nat) (g : Nat → Int32) (f : Nat → Int64) (m : Nat) (u : Nat → Int64) (u0 : Nat → Int64) (A : Nat → Prop) := wQl' G (fun (r : Int64) (z : Unit) => r = f (102 + (m - 1)) * aAbs (u (m - 1)) / sNorm rootM m u) (fun (z : Unit) => ([[(o, wo 5 (mo ad lb g))], [(lb, wL G 208 f)], [(ad 8, wL G 6 (sMap m u u0))]] : List va_W)) A
set_option maxHeartbeats 8000000 in
set_option maxRecDepth 100000 in
theorem met_boundNow (l : Launch) (G : GX) (sz : Nat) (o : Nat) (ad : Nat → Nat) (lb : Nat) (g : Nat → Int32) (f : Nat → Int64) (m : Nat) (u : Nat → Int64) (u0 : Nat → Int64) (h4 : f 4 = lN m) (hm : m ≤ 6) (h1m : 1 ≤ m) (hnz : ¬ sNorm rootM m u = 0) : Met l yX6_boundNow (ws_ yX6_boundNow cX6_boundNow 2 (some .long)) ({ frames := 2, cells := 0, slots := 0, locals := 51 }) (va_Pc [.ref o] (wPre G (S_met_boundNow G o ad lb g f m u u0) sz)) (Q_met_boundNow G o ad lb g f m u u0 (wA (S_met_boundNow G o ad lb g f m u u0) sz)) 0 0 (wA (S_met_boundNow G o ad lb g f m u u0) sz) := sorry
abbrev S_met_ritzBound (G : GX) (o : Nat) (ad : Nat → Nat) (lb : Nat) (g : Nat → Int32) (f : Nat → Int64) (m : Nat) (k : Nat) (u0 : Nat → Int64) : List va_W := [[(o, wo 5 (mo ad lb g))], [(lb, wL G 208 f)], [(ad 8, wL G 6 u0)]]
abbrev Q_met_ritzBound (G : GX) (o : Nat) (ad : Nat → Nat) (lb : Nat) (g : Nat → Int32) (f : Nat → Int64) (m : Nat) (k : Nat) (u0 : Nat → Int64) (A : Nat → Prop) := wQl' G (fun (r : Int64) (z : Unit) => r = sBnd rootM f m k) (fun (z : Unit) => ([[(o, wo 5 (mo ad lb g))], [(lb, wL G 208 f)], [(ad 8, wL G 6 (sMap m (sSh f (sVal f m k)) u0))]] : List va_W)) A
set_option maxHeartbeats 8000000 in
set_option maxRecDepth 100000 in
theorem met_ritzBound (l : Launch) (G : GX) (sz : Nat) (o : Nat) (ad : Nat → Nat) (lb : Nat) (g : Nat → Int32) (f : Nat → Int64) (m : Nat) (k : Nat) (u0 : Nat → Int64) (h4 : f 4 = lN m) (hm : m ≤ 6) (h1m : 1 ≤ m) (hbt : ∀ j, j + 1 < m → ¬ f (102 + j) = 0) (hk : k ≤ 6) (hnz : ¬ sNorm rootM m (sSh f (sVal f m k)) = 0) : Met l yX6_ritzBound (ws_ yX6_ritzBound cX6_ritzBound 2 (some .long)) ({ frames := 3, cells := 0, slots := 0, locals := 88 }) (va_Pc [.ref o, .int (nI k)] (wPre G (S_met_ritzBound G o ad lb g f m k u0) sz)) (Q_met_ritzBound G o ad lb g f m k u0 (wA (S_met_ritzBound G o ad lb g f m k u0) sz)) 0 0 (wA (S_met_ritzBound G o ad lb g f m k u0) sz) := sorry
abbrev S_met_makeRitz (G : GX) (o : Nat) (ad : Nat → Nat) (lb : Nat) (g : Nat → Int32) (f : Nat → Int64) (n : Nat) (m : Nat) (k : Nat) (u0 : Nat → Int64) (t0 : Nat → Int64) : List va_W := [[(o, wo 5 (mo ad lb g))], [(lb, wL G 208 f)], [(ad 8, wL G 6 u0)], [(ad 7, wL G 6 t0)]]
abbrev Q_met_makeRitz (G : GX) (o : Nat) (ad : Nat → Nat) (lb : Nat) (g : Nat → Int32) (f : Nat → Int64) (n : Nat) (m : Nat) (k : Nat) (u0 : Nat → Int64) (t0 : Nat → Int64) (A : Nat → Prop) := wQv' G (fun (z : Unit) => True) (fun (z : Unit) => ([[(o, wo 5 (mo ad lb g))], [(lb, wL G 208 f)], [(ad 8, wL G 6 (sMap m (sSh f (sVal f m k)) u0))], [(ad 7, wL G 6 (sMap n (vRitz rootM n f m k) t0))]] : List va_W)) A
set_option maxHeartbeats 8000000 in
set_option maxRecDepth 100000 in
theorem met_makeRitz (l : Launch) (G : GX) (sz : Nat) (o : Nat) (ad : Nat → Nat) (lb : Nat) (g : Nat → Int32) (f : Nat → Int64) (n : Nat) (m : Nat) (k : Nat) (u0 : Nat → Int64) (t0 : Nat → Int64) (h0 : f 0 = lN n) (h4 : f 4 = lN m) (hn : n ≤ 6) (hm : m ≤ 6) (h1m : 1 ≤ m) (hbt : ∀ j, j + 1 < m → ¬ f (102 + j) = 0) (hk : k ≤ 6) : Met l yX6_makeRitz (ws_ yX6_makeRitz cX6_makeRitz 6 none) ({ frames := 3, cells := 0, slots := 0, locals := 88 }) (va_Pc [.ref o, .int (nI k)] (wPre G (S_met_makeRitz G o ad lb g f n m k u0 t0) sz)) (Q_met_makeRitz G o ad lb g f n m k u0 t0 (wA (S_met_makeRitz G o ad lb g f n m k u0 t0) sz)) 0 0 (wA (S_met_makeRitz G o ad lb g f n m k u0 t0) sz) := sorry
abbrev S_met_residualOf (G : GX) (o : Nat) (ad : Nat → Nat) (lb : Nat) (g : Nat → Int32) (f : Nat → Int64) (n : Nat) (x : Int64) (p : Nat) (u0 : Nat → Int64) : List va_W := [[(o, wo 5 (mo ad lb g))], [(lb, wL G 208 f)], [(ad 6, wL G 6 u0)]]
abbrev Q_met_residualOf (G : GX) (o : Nat) (ad : Nat → Nat) (lb : Nat) (g : Nat → Int32) (f : Nat → Int64) (n : Nat) (x : Int64) (p : Nat) (u0 : Nat → Int64) (A : Nat → Prop) := wQl' G (fun (r : Int64) (z : Nat → Int64) => r = sRes rootM n f x (sAt f p)) (fun (z : Nat → Int64) => ([[(o, wo 5 (mo ad lb g))], [(lb, wL G 208 f)], [(ad 6, wL G 6 z)]] : List va_W)) A
set_option maxHeartbeats 8000000 in
set_option maxRecDepth 100000 in
theorem met_residualOf (l : Launch) (G : GX) (sz : Nat) (o : Nat) (ad : Nat → Nat) (lb : Nat) (g : Nat → Int32) (f : Nat → Int64) (n : Nat) (x : Int64) (p : Nat) (u0 : Nat → Int64) (h0 : f 0 = lN n) (hn : n ≤ 6) (h2 : p + n ≤ 208) : Met l yX6_residualOf (ws_ yX6_residualOf cX6_residualOf 5 (some .long)) ({ frames := 2, cells := 0, slots := 0, locals := 51 }) (va_Pc [.ref o, .long x, .ref lb, .int (nI p)] (wPre G (S_met_residualOf G o ad lb g f n x p u0) sz)) (Q_met_residualOf G o ad lb g f n x p u0 (wA (S_met_residualOf G o ad lb g f n x p u0) sz)) 0 0 (wA (S_met_residualOf G o ad lb g f n x p u0) sz) := sorry
abbrev S_met_residualOfR (G : GX) (o : Nat) (ad : Nat → Nat) (lb : Nat) (g : Nat → Int32) (f : Nat → Int64) (n : Nat) (x : Int64) (u0 : Nat → Int64) (v : Nat) (t : Nat → Int64) (t0 : Nat → Int64) : List va_W := [[(o, wo 5 (mo ad lb g))], [(lb, wL G 208 f)], [(ad 6, wL G 6 u0)], [(v, wL G 6 (sMap n t t0))]]
abbrev Q_met_residualOfR (G : GX) (o : Nat) (ad : Nat → Nat) (lb : Nat) (g : Nat → Int32) (f : Nat → Int64) (n : Nat) (x : Int64) (u0 : Nat → Int64) (v : Nat) (t : Nat → Int64) (t0 : Nat → Int64) (A : Nat → Prop) := wQl' G (fun (r : Int64) (z : Nat → Int64) => r = sRes rootM n f x t) (fun (z : Nat → Int64) => ([[(o, wo 5 (mo ad lb g))], [(lb, wL G 208 f)], [(ad 6, wL G 6 z)], [(v, wL G 6 (sMap n t t0))]] : List va_W)) A
set_option maxHeartbeats 8000000 in
set_option maxRecDepth 100000 in
theorem met_residualOfR (l : Launch) (G : GX) (sz : Nat) (o : Nat) (ad : Nat → Nat) (lb : Nat) (g : Nat → Int32) (f : Nat → Int64) (n : Nat) (x : Int64) (u0 : Nat → Int64) (v : Nat) (t : Nat → Int64) (t0 : Nat → Int64) (h0 : f 0 = lN n) (hn : n ≤ 6) : Met l yX6_residualOf (ws_ yX6_residualOf cX6_residualOf 5 (some .long)) ({ frames := 2, cells := 0, slots := 0, locals := 51 }) (va_Pc [.ref o, .long x, .ref v, .int (nI 0)] (wPre G (S_met_residualOfR G o ad lb g f n x u0 v t t0) sz)) (Q_met_residualOfR G o ad lb g f n x u0 v t t0 (wA (S_met_residualOfR G o ad lb g f n x u0 v t t0) sz)) 0 0 (wA (S_met_residualOfR G o ad lb g f n x u0 v t t0) sz) := sorry
end
section
/-! PURE 1: what the roots are; the norm of shares is never 0 -/
theorem sq_mono {a b : Int} (h0 : 0 ≤ a) (h : a ≤ b) : a * a ≤ b * b := sorry
theorem sq_bnd {a B : Int} (h1 : -B ≤ a) (h2 : a ≤ B) : a * a ≤ B * B := sorry
theorem sq_nn (a : Int) : 0 ≤ a * a := sorry
theorem mRoot_spec {x : Int64} : ∀ (n : Nat) (lo hi : Int64), 0 ≤ lo.toInt → lo.toInt ≤ hi.toInt → hi.toInt ≤ 3000000000 → hi.toInt - lo.toInt < n → lo.toInt * lo.toInt ≤ x.toInt → x.toInt < (hi.toInt + 1) * (hi.toInt + 1) → 0 ≤ (mRoot x n lo hi).toInt ∧ (mRoot x n lo hi).toInt ≤ 3000000000 ∧ (mRoot x n lo hi).toInt * (mRoot x n lo hi).toInt ≤ x.toInt ∧ x.toInt < ((mRoot x n lo hi).toInt + 1) * ((mRoot x n lo hi).toInt + 1) := sorry
theorem rootM_spec {x : Int64} (h1 : 0 ≤ x.toInt) (h2 : x.toInt ≤ 9000000000000000000) : 0 ≤ (rootM x).toInt ∧ (rootM x).toInt ≤ 3000000000 ∧ (rootM x).toInt * (rootM x).toInt ≤ x.toInt ∧ x.toInt < ((rootM x).toInt + 1) * ((rootM x).toInt + 1) := sorry
theorem cRoot_mid {lo hi : Int64} (h : ¬ hi ≤ lo) (h1 : 0 ≤ lo.toInt) (h2 : hi.toInt ≤ 4611686018427387903) : lo.toInt < (lo + (hi - lo + 1) / 2).toInt ∧ (lo + (hi - lo + 1) / 2).toInt ≤ hi.toInt ∧ (lo + (hi - lo + 1) / 2 - 1).toInt = (lo + (hi - lo + 1) / 2).toInt - 1 := sorry
theorem cRoot_spec {x : Int64} : ∀ (n : Nat) (lo hi : Int64), 0 ≤ lo.toInt → lo.toInt ≤ hi.toInt → hi.toInt ≤ 3037000499 → hi.toInt - lo.toInt < n → lo.toInt * lo.toInt ≤ x.toInt → x.toInt < (hi.toInt + 1) * (hi.toInt + 1) → 0 ≤ (cRoot x n lo hi).toInt ∧ (cRoot x n lo hi).toInt ≤ 3037000499 ∧ (cRoot x n lo hi).toInt * (cRoot x n lo hi).toInt ≤ x.toInt ∧ x.toInt < ((cRoot x n lo hi).toInt + 1) * ((cRoot x n lo hi).toInt + 1) := sorry
theorem rootC_spec {x : Int64} (h1 : 0 ≤ x.toInt) : 0 ≤ (rootC x).toInt ∧ (rootC x).toInt ≤ 3037000499 ∧ (rootC x).toInt * (rootC x).toInt ≤ x.toInt ∧ x.toInt < ((rootC x).toInt + 1) * ((rootC x).toInt + 1) := sorry
theorem root_uniq {a b x : Int} (ha : 0 ≤ a) (hb : 0 ≤ b) (h1 : a * a ≤ x) (h2 : x < (a + 1) * (a + 1)) (h3 : b * b ≤ x) (h4 : x < (b + 1) * (b + 1)) : a = b := sorry
/-- where the square isn't beyond 9e18, both roots are the same -/
theorem root_same {x : Int64} (h1 : 0 ≤ x.toInt) (h2 : x.toInt ≤ 9000000000000000000) : rootC x = rootM x := sorry
theorem sBound_in (v : Int64) {t : Int64} (h0 : 0 ≤ t.toInt) (h1 : t.toInt < 9223372036854775807) : -t.toInt ≤ (sBound v t).toInt ∧ (sBound v t).toInt ≤ t.toInt := sorry
theorem sSh_in (f : Nat → Int64) (t : Int64) (k : Nat) : -100000000 ≤ (sSh f t k).toInt ∧ (sSh f t k).toInt ≤ 100000000 := sorry
theorem sq_sum {u : Nat → Int64} : ∀ n : Nat, n ≤ 6 → (∀ k, k < n → -100000000 ≤ (u k).toInt ∧ (u k).toInt ≤ 100000000) → 0 ≤ (sSum (fun k => u k * u k) n).toInt ∧ (sSum (fun k => u k * u k) n).toInt ≤ n * 10000000000000000 ∧ (0 < n → (u 0).toInt * (u 0).toInt ≤ (sSum (fun k => u k * u k) n).toInt) := sorry
theorem sSh_nz (f : Nat → Int64) (t : Int64) {m : Nat} (h1 : 1 ≤ m) (h6 : m ≤ 6) : ¬ sNorm rootM m (sSh f t) = 0 := sorry
theorem sSh_nzC (f : Nat → Int64) (t : Int64) {m : Nat} (h1 : 1 ≤ m) (h6 : m ≤ 6) : ¬ sNorm rootC m (sSh f t) = 0 := sorry
end
section
def sLres (R : Int64 → Int64) (n : Nat) (f : Nat → Int64) (k : Nat) : Int64 := sRes R n f (f (157 + 8 * k + 0)) (sAt f (157 + 8 * k + 2))
def sHin (R : Int64 → Int64) (n m q : Nat) (f : Nat → Int64) (k : Nat) : Int32 := if f 3 < sBnd R f m k then -2 else if q = n then -3 else if sNorm R n (vLocks n f q (vRitz R n f m k)) < 1000 then -4 else nI 0
/-- a vector v is locked as the q-th, with the k-th value -/
def fLk1 (R : Int64 → Int64) (n q : Nat) (f v : Nat → Int64) : Nat → Int64 := sPut n (vUnit R n v) (157 + 8 * q + 2) f
def fLk2 (R : Int64 → Int64) (n m q : Nat) (f v : Nat → Int64) (k : Nat) : Nat → Int64 := vp_updL (fLk1 R n q f v) (157 + 8 * q + 0) (sVal (fLk1 R n q f v) m k)
def fLock (R : Int64 → Int64) (n m q : Nat) (f v : Nat → Int64) (k : Nat) : Nat → Int64 := vp_updL (vp_updL (fLk2 R n m q f v k) (157 + 8 * q + 1) (sBnd R (fLk2 R n m q f v k) m k)) 6 (f 6 + 1)
theorem fLk1_at {R : Int64 → Int64} {n q j : Nat} {f v : Nat → Int64} (hj : j < 157) : fLk1 R n q f v j = f j := sorry
theorem fLk2_at {R : Int64 → Int64} {n m q j : Nat} {f v : Nat → Int64} {k : Nat} (hj : j < 157) : fLk2 R n m q f v k j = f j := sorry
abbrev S_met_isLocked (G : GX) (o : Nat) (ad : Nat → Nat) (lb : Nat) (g : Nat → Int32) (f : Nat → Int64) (q : Nat) (x : Int32) : List va_W := [[(o, wo 5 (mo ad lb g))], [(lb, wL G 208 f)]]
abbrev Q_met_isLocked (G : GX) (o : Nat) (ad : Nat → Nat) (lb : Nat) (g : Nat → Int32) (f : Nat → Int64) (q : Nat) (x : Int32) (A : Nat → Prop) := wQi' G (fun (r : Int32) (z : Unit) => r = if 0 ≤ x ∧ x < nI q then nI 1 else nI 0) (fun (z : Unit) => ([[(o, wo 5 (mo ad lb g))], [(lb, wL G 208 f)]] : List va_W)) A
set_option maxHeartbeats 8000000 in
set_option maxRecDepth 100000 in
theorem met_isLocked (l : Launch) (G : GX) (sz : Nat) (o : Nat) (ad : Nat → Nat) (lb : Nat) (g : Nat → Int32) (f : Nat → Int64) (q : Nat) (x : Int32) (h6 : f 6 = lN q) (hq : q ≤ 6) : Met l yX6_isLocked (ws_ yX6_isLocked cX6_isLocked 2 (some .boolean)) ({ frames := 1, cells := 0, slots := 0, locals := 25 }) (va_Pc [.ref o, .int x] (wPre G (S_met_isLocked G o ad lb g f q x) sz)) (Q_met_isLocked G o ad lb g f q x (wA (S_met_isLocked G o ad lb g f q x) sz)) 0 0 (wA (S_met_isLocked G o ad lb g f q x) sz) := sorry
abbrev S_met_ofLock (G : GX) (o : Nat) (ad : Nat → Nat) (lb : Nat) (g : Nat → Int32) (f : Nat → Int64) (k : Nat) (j : Nat) : List va_W := [[(o, wo 5 (mo ad lb g))], [(lb, wL G 208 f)]]
abbrev Q_met_ofLock (G : GX) (o : Nat) (ad : Nat → Nat) (lb : Nat) (g : Nat → Int32) (f : Nat → Int64) (k : Nat) (j : Nat) (A : Nat → Prop) := wQl' G (fun (r : Int64) (z : Unit) => r = f (157 + 8 * k + j)) (fun (z : Unit) => ([[(o, wo 5 (mo ad lb g))], [(lb, wL G 208 f)]] : List va_W)) A
set_option maxHeartbeats 8000000 in
set_option maxRecDepth 100000 in
theorem met_ofLock (l : Launch) (G : GX) (sz : Nat) (o : Nat) (ad : Nat → Nat) (lb : Nat) (g : Nat → Int32) (f : Nat → Int64) (k : Nat) (j : Nat) (hk : k ≤ 5) (hj : j ≤ 7) : Met l yX6_ofLock (ws_ yX6_ofLock cX6_ofLock 3 (some .long)) ({ frames := 1, cells := 0, slots := 0, locals := 20 }) (va_Pc [.ref o, .int (nI k), .int (nI j)] (wPre G (S_met_ofLock G o ad lb g f k j) sz)) (Q_met_ofLock G o ad lb g f k j (wA (S_met_ofLock G o ad lb g f k j) sz)) 0 0 (wA (S_met_ofLock G o ad lb g f k j) sz) := sorry
abbrev S_met_lockedResidual (G : GX) (o : Nat) (ad : Nat → Nat) (lb : Nat) (g : Nat → Int32) (f : Nat → Int64) (n : Nat) (k : Nat) (u0 : Nat → Int64) : List va_W := [[(o, wo 5 (mo ad lb g))], [(lb, wL G 208 f)], [(ad 6, wL G 6 u0)]]
abbrev Q_met_lockedResidual (G : GX) (o : Nat) (ad : Nat → Nat) (lb : Nat) (g : Nat → Int32) (f : Nat → Int64) (n : Nat) (k : Nat) (u0 : Nat → Int64) (A : Nat → Prop) := wQl' G (fun (r : Int64) (z : Nat → Int64) => r = sLres rootM n f k) (fun (z : Nat → Int64) => ([[(o, wo 5 (mo ad lb g))], [(lb, wL G 208 f)], [(ad 6, wL G 6 z)]] : List va_W)) A
set_option maxHeartbeats 8000000 in
set_option maxRecDepth 100000 in
theorem met_lockedResidual (l : Launch) (G : GX) (sz : Nat) (o : Nat) (ad : Nat → Nat) (lb : Nat) (g : Nat → Int32) (f : Nat → Int64) (n : Nat) (k : Nat) (u0 : Nat → Int64) (h0 : f 0 = lN n) (hn : n ≤ 6) (hk : k ≤ 5) : Met l yX6_lockedResidual (ws_ yX6_lockedResidual cX6_lockedResidual 2 (some .long)) ({ frames := 3, cells := 0, slots := 0, locals := 75 }) (va_Pc [.ref o, .int (nI k)] (wPre G (S_met_lockedResidual G o ad lb g f n k u0) sz)) (Q_met_lockedResidual G o ad lb g f n k u0 (wA (S_met_lockedResidual G o ad lb g f n k u0) sz)) 0 0 (wA (S_met_lockedResidual G o ad lb g f n k u0) sz) := sorry
abbrev S_met_isBroken (G : GX) (o : Nat) (ad : Nat → Nat) (lb : Nat) (g : Nat → Int32) (f : Nat → Int64) (n : Nat) (k : Nat) (x : Int32) (u0 : Nat → Int64) : List va_W := [[(o, wo 5 (mo ad lb g))], [(lb, wL G 208 f)], [(ad 6, wL G 6 u0)]]
abbrev Q_met_isBroken (G : GX) (o : Nat) (ad : Nat → Nat) (lb : Nat) (g : Nat → Int32) (f : Nat → Int64) (n : Nat) (k : Nat) (x : Int32) (u0 : Nat → Int64) (A : Nat → Prop) := wQi' G (fun (r : Int32) (z : Nat → Int64) => r = if f (157 + 8 * k + 1) + x.toInt64 < sLres rootM n f k then nI 1 else nI 0) (fun (z : Nat → Int64) => ([[(o, wo 5 (mo ad lb g))], [(lb, wL G 208 f)], [(ad 6, wL G 6 z)]] : List va_W)) A
set_option maxHeartbeats 8000000 in
set_option maxRecDepth 100000 in
theorem met_isBroken (l : Launch) (G : GX) (sz : Nat) (o : Nat) (ad : Nat → Nat) (lb : Nat) (g : Nat → Int32) (f : Nat → Int64) (n : Nat) (k : Nat) (x : Int32) (u0 : Nat → Int64) (h0 : f 0 = lN n) (hn : n ≤ 6) (hk : k ≤ 5) : Met l yX6_isBroken (ws_ yX6_isBroken cX6_isBroken 3 (some .boolean)) ({ frames := 4, cells := 0, slots := 0, locals := 96 }) (va_Pc [.ref o, .int (nI k), .int x] (wPre G (S_met_isBroken G o ad lb g f n k x u0) sz)) (Q_met_isBroken G o ad lb g f n k x u0 (wA (S_met_isBroken G o ad lb g f n k x u0) sz)) 0 0 (wA (S_met_isBroken G o ad lb g f n k x u0) sz) := sorry
abbrev S_met_hindrance (G : GX) (o : Nat) (ad : Nat → Nat) (lb : Nat) (g : Nat → Int32) (f : Nat → Int64) (n : Nat) (m : Nat) (q : Nat) (k : Nat) (u0 : Nat → Int64) (t0 : Nat → Int64) : List va_W := [[(o, wo 5 (mo ad lb g))], [(lb, wL G 208 f)], [(ad 8, wL G 6 u0)], [(ad 7, wL G 6 t0)]]
abbrev Q_met_hindrance (G : GX) (o : Nat) (ad : Nat → Nat) (lb : Nat) (g : Nat → Int32) (f : Nat → Int64) (n : Nat) (m : Nat) (q : Nat) (k : Nat) (u0 : Nat → Int64) (t0 : Nat → Int64) (A : Nat → Prop) := wQi' G (fun (r : Int32) (z : (Nat → Int64) × (Nat → Int64)) => r = sHin rootM n m q f k ∧ (r = nI 0 → z.2 = sMap n (vLocks n f q (vRitz rootM n f m k)) t0)) (fun (z : (Nat → Int64) × (Nat → Int64)) => ([[(o, wo 5 (mo ad lb g))], [(lb, wL G 208 f)], [(ad 8, wL G 6 z.1)], [(ad 7, wL G 6 z.2)]] : List va_W)) A
set_option maxHeartbeats 8000000 in
set_option maxRecDepth 100000 in
theorem met_hindrance (l : Launch) (G : GX) (sz : Nat) (o : Nat) (ad : Nat → Nat) (lb : Nat) (g : Nat → Int32) (f : Nat → Int64) (n : Nat) (m : Nat) (q : Nat) (k : Nat) (u0 : Nat → Int64) (t0 : Nat → Int64) (h0 : f 0 = lN n) (h4 : f 4 = lN m) (h6 : f 6 = lN q) (hn : n ≤ 6) (hm : m ≤ 6) (hq : q ≤ 6) (h1m : 1 ≤ m) (hbt : ∀ j, j + 1 < m → ¬ f (102 + j) = 0) (hk : k ≤ 6) : Met l yX6_hindrance (ws_ yX6_hindrance cX6_hindrance 2 (some .int)) ({ frames := 4, cells := 0, slots := 0, locals := 113 }) (va_Pc [.ref o, .int (nI k)] (wPre G (S_met_hindrance G o ad lb g f n m q k u0 t0) sz)) (Q_met_hindrance G o ad lb g f n m q k u0 t0 (wA (S_met_hindrance G o ad lb g f n m q k u0 t0) sz)) 0 0 (wA (S_met_hindrance G o ad lb g f n m q k u0 t0) sz) := sorry
abbrev S_met_lockMade (G : GX) (o : Nat) (ad : Nat → Nat) (lb : Nat) (g : Nat → Int32) (f : Nat → Int64) (n : Nat) (m : Nat) (q : Nat) (k : Nat) (u0 : Nat → Int64) (v : Nat → Int64) (t0 : Nat → Int64) : List va_W := [[(o, wo 5 (mo ad lb g))], [(lb, wL G 208 f)], [(ad 8, wL G 6 u0)], [(ad 7, wL G 6 (sMap n v t0))]]
abbrev Q_met_lockMade (G : GX) (o : Nat) (ad : Nat → Nat) (lb : Nat) (g : Nat → Int32) (f : Nat → Int64) (n : Nat) (m : Nat) (q : Nat) (k : Nat) (u0 : Nat → Int64) (v : Nat → Int64) (t0 : Nat → Int64) (A : Nat → Prop) := wQi' G (fun (r : Int32) (z : (Nat → Int64) × (Nat → Int64)) => r = nI q) (fun (z : (Nat → Int64) × (Nat → Int64)) => ([[(o, wo 5 (mo ad lb g))], [(lb, wL G 208 (fLock rootM n m q f v k))], [(ad 8, wL G 6 z.1)], [(ad 7, wL G 6 z.2)]] : List va_W)) A
set_option maxHeartbeats 8000000 in
set_option maxRecDepth 100000 in
theorem met_lockMade (l : Launch) (G : GX) (sz : Nat) (o : Nat) (ad : Nat → Nat) (lb : Nat) (g : Nat → Int32) (f : Nat → Int64) (n : Nat) (m : Nat) (q : Nat) (k : Nat) (u0 : Nat → Int64) (v : Nat → Int64) (t0 : Nat → Int64) (h0 : f 0 = lN n) (h4 : f 4 = lN m) (h6 : f 6 = lN q) (hn : n ≤ 6) (hm : m ≤ 6) (hq : q ≤ 5) (h1m : 1 ≤ m) (hbt : ∀ j, j + 1 < m → ¬ f (102 + j) = 0) (hk : k ≤ 6) : Met l yX6_lockMade (ws_ yX6_lockMade cX6_lockMade 3 (some .int)) ({ frames := 4, cells := 0, slots := 0, locals := 109 }) (va_Pc [.ref o, .int (nI k)] (wPre G (S_met_lockMade G o ad lb g f n m q k u0 v t0) sz)) (Q_met_lockMade G o ad lb g f n m q k u0 v t0 (wA (S_met_lockMade G o ad lb g f n m q k u0 v t0) sz)) 0 0 (wA (S_met_lockMade G o ad lb g f n m q k u0 v t0) sz) := sorry
end
section
theorem uI_uI {f : Nat → Int32} {k : Nat} {x y : Int32} : upd (upd f k x) k y = upd f k y := sorry
/-- the history moved down by k rows; a row recorded -/
def hSh (h : Nat → Int64) : Nat → (Nat → Int64)
  | 0 => h
  | k + 1 => va_cpy (hSh h k) (hSh h k) (208 * (k + 1)) (208 * k) 208
def cRec (c : Nat) : Nat := if c = 10 then 9 else c
def hRec (f h : Nat → Int64) (c : Nat) : Nat → Int64 := va_cpy f (if c = 10 then hSh h 9 else h) 0 (208 * cRec c) 208

abbrev S_met_record (G : GX) (o : Nat) (ad : Nat → Nat) (lb : Nat) (g : Nat → Int32) (f : Nat → Int64) (h : Nat → Int64) (c : Nat) : List va_W := [[(o, wo 5 (mo ad lb g))], [(ad 0, wL G 208 f)], [(ad 4, wL G 2080 h)]]
abbrev Q_met_record (G : GX) (o : Nat) (ad : Nat → Nat) (lb : Nat) (g : Nat → Int32) (f : Nat → Int64) (h : Nat → Int64) (c : Nat) (A : Nat → Prop) := wQv' G (fun (z : Unit) => True) (fun (z : Unit) => ([[(o, wo 5 (mo ad lb (upd g 0 (nI (cRec c + 1)))))], [(ad 0, wL G 208 f)], [(ad 4, wL G 2080 (hRec f h c))]] : List va_W)) A
set_option maxHeartbeats 8000000 in
set_option maxRecDepth 100000 in
theorem met_record (l : Launch) (G : GX) (sz : Nat) (o : Nat) (ad : Nat → Nat) (lb : Nat) (g : Nat → Int32) (f : Nat → Int64) (h : Nat → Int64) (c : Nat) (hg0 : g 0 = nI c) (hc : c ≤ 10) : Met l yX6_record (ws_ yX6_record cX6_record 2 none) ({ frames := 1, cells := 0, slots := 0, locals := 24 }) (va_Pc [.ref o] (wPre G (S_met_record G o ad lb g f h c) sz)) (Q_met_record G o ad lb g f h c (wA (S_met_record G o ad lb g f h c) sz)) 0 0 (wA (S_met_record G o ad lb g f h c) sz) := sorry
def dLk (f : Nat → Int64) (a : Nat) (k : Nat) : Nat → Int64 := fun j => if a ≤ j ∧ j < k then f (j + 8) else f j
theorem dLk_s {f : Nat → Int64} {a k : Nat} {x : Int64} (h : a ≤ k) (hx : x = f (k + 8)) : vp_updL (dLk f a k) k x = dLk f a (k + 1) := sorry
theorem dLk_0 {f : Nat → Int64} {a : Nat} : dLk f a a = f := sorry
theorem dLk_out {f : Nat → Int64} {a k j : Nat} (h : j < a ∨ k ≤ j) : dLk f a k j = f j := sorry
/-- the k-th of q locked ones dropped -/
def fDrop (q : Nat) (f : Nat → Int64) (k : Nat) : Nat → Int64 := dLk (vp_updL f 6 (f 6 - 1)) (157 + 8 * k) (157 + 8 * (q - 1))

abbrev S_met_dropLock (G : GX) (o : Nat) (ad : Nat → Nat) (lb : Nat) (g : Nat → Int32) (f : Nat → Int64) (q : Nat) (k : Nat) : List va_W := [[(o, wo 5 (mo ad lb g))], [(lb, wL G 208 f)]]
abbrev Q_met_dropLock (G : GX) (o : Nat) (ad : Nat → Nat) (lb : Nat) (g : Nat → Int32) (f : Nat → Int64) (q : Nat) (k : Nat) (A : Nat → Prop) := wQv' G (fun (z : Unit) => True) (fun (z : Unit) => ([[(o, wo 5 (mo ad lb g))], [(lb, wL G 208 (fDrop q f k))]] : List va_W)) A
set_option maxHeartbeats 8000000 in
set_option maxRecDepth 100000 in
theorem met_dropLock (l : Launch) (G : GX) (sz : Nat) (o : Nat) (ad : Nat → Nat) (lb : Nat) (g : Nat → Int32) (f : Nat → Int64) (q : Nat) (k : Nat) (h6 : f 6 = lN q) (hq : q ≤ 6) (hk : k < q) : Met l yX6_dropLock (ws_ yX6_dropLock cX6_dropLock 3 none) ({ frames := 1, cells := 0, slots := 0, locals := 20 }) (va_Pc [.ref o, .int (nI k)] (wPre G (S_met_dropLock G o ad lb g f q k) sz)) (Q_met_dropLock G o ad lb g f q k (wA (S_met_dropLock G o ad lb g f q k) sz)) 0 0 (wA (S_met_dropLock G o ad lb g f q k) sz) := sorry
end
section
theorem in_nat {x : Int32} {n : Nat} (hn : n < 2 ^ 31) (h : 0 ≤ x ∧ x < nI n) : ∃ a, a < n ∧ x = nI a := sorry
abbrev S_met_thrown (G : GX) (o : Nat) (ad : Nat → Nat) (lb : Nat) (g : Nat → Int32) : List va_W := [[(o, wo 5 (mo ad lb g))]]
abbrev Q_met_thrown (G : GX) (o : Nat) (ad : Nat → Nat) (lb : Nat) (g : Nat → Int32) (A : Nat → Prop) := wQi' G (fun (r : Int32) (z : Unit) => r = g 1) (fun (z : Unit) => ([[(o, wo 5 (mo ad lb g))]] : List va_W)) A
set_option maxHeartbeats 8000000 in
set_option maxRecDepth 100000 in
theorem met_thrown (l : Launch) (G : GX) (sz : Nat) (o : Nat) (ad : Nat → Nat) (lb : Nat) (g : Nat → Int32)  : Met l yX6_thrown (ws_ yX6_thrown cX6_thrown 1 (some .int)) ({ frames := 0, cells := 0, slots := 0, locals := 0 }) (va_Pc [.ref o] (wPre G (S_met_thrown G o ad lb g) sz)) (Q_met_thrown G o ad lb g (wA (S_met_thrown G o ad lb g) sz)) 0 0 (wA (S_met_thrown G o ad lb g) sz) := sorry
abbrev S_met_order (G : GX) (o : Nat) (ad : Nat → Nat) (g : Nat → Int32) (f : Nat → Int64) (n : Nat) : List va_W := [[(o, wo 5 (mo ad (ad 0) g))], [(ad 0, wL G 208 f)]]
abbrev Q_met_order (G : GX) (o : Nat) (ad : Nat → Nat) (g : Nat → Int32) (f : Nat → Int64) (n : Nat) (A : Nat → Prop) := wQi' G (fun (r : Int32) (z : Unit) => r = nI n) (fun (z : Unit) => ([[(o, wo 5 (mo ad (ad 0) (upd g 1 (nI 0))))], [(ad 0, wL G 208 f)]] : List va_W)) A
set_option maxHeartbeats 8000000 in
set_option maxRecDepth 100000 in
theorem met_order (l : Launch) (G : GX) (sz : Nat) (o : Nat) (ad : Nat → Nat) (g : Nat → Int32) (f : Nat → Int64) (n : Nat) (h0 : f 0 = lN n) : Met l yX6_order (ws_ yX6_order cX6_order 1 (some .int)) ({ frames := 1, cells := 0, slots := 0, locals := 20 }) (va_Pc [.ref o] (wPre G (S_met_order G o ad g f n) sz)) (Q_met_order G o ad g f n (wA (S_met_order G o ad g f n) sz)) 0 0 (wA (S_met_order G o ad g f n) sz) := sorry
abbrev S_met_steps (G : GX) (o : Nat) (ad : Nat → Nat) (g : Nat → Int32) (f : Nat → Int64) (m : Nat) : List va_W := [[(o, wo 5 (mo ad (ad 0) g))], [(ad 0, wL G 208 f)]]
abbrev Q_met_steps (G : GX) (o : Nat) (ad : Nat → Nat) (g : Nat → Int32) (f : Nat → Int64) (m : Nat) (A : Nat → Prop) := wQi' G (fun (r : Int32) (z : Unit) => r = nI m) (fun (z : Unit) => ([[(o, wo 5 (mo ad (ad 0) (upd g 1 (nI 0))))], [(ad 0, wL G 208 f)]] : List va_W)) A
set_option maxHeartbeats 8000000 in
set_option maxRecDepth 100000 in
theorem met_steps (l : Launch) (G : GX) (sz : Nat) (o : Nat) (ad : Nat → Nat) (g : Nat → Int32) (f : Nat → Int64) (m : Nat) (h4 : f 4 = lN m) : Met l yX6_steps (ws_ yX6_steps cX6_steps 1 (some .int)) ({ frames := 1, cells := 0, slots := 0, locals := 20 }) (va_Pc [.ref o] (wPre G (S_met_steps G o ad g f m) sz)) (Q_met_steps G o ad g f m (wA (S_met_steps G o ad g f m) sz)) 0 0 (wA (S_met_steps G o ad g f m) sz) := sorry
abbrev S_met_lockedCount (G : GX) (o : Nat) (ad : Nat → Nat) (g : Nat → Int32) (f : Nat → Int64) (q : Nat) : List va_W := [[(o, wo 5 (mo ad (ad 0) g))], [(ad 0, wL G 208 f)]]
abbrev Q_met_lockedCount (G : GX) (o : Nat) (ad : Nat → Nat) (g : Nat → Int32) (f : Nat → Int64) (q : Nat) (A : Nat → Prop) := wQi' G (fun (r : Int32) (z : Unit) => r = nI q) (fun (z : Unit) => ([[(o, wo 5 (mo ad (ad 0) (upd g 1 (nI 0))))], [(ad 0, wL G 208 f)]] : List va_W)) A
set_option maxHeartbeats 8000000 in
set_option maxRecDepth 100000 in
theorem met_lockedCount (l : Launch) (G : GX) (sz : Nat) (o : Nat) (ad : Nat → Nat) (g : Nat → Int32) (f : Nat → Int64) (q : Nat) (h6 : f 6 = lN q) : Met l yX6_lockedCount (ws_ yX6_lockedCount cX6_lockedCount 1 (some .int)) ({ frames := 1, cells := 0, slots := 0, locals := 20 }) (va_Pc [.ref o] (wPre G (S_met_lockedCount G o ad g f q) sz)) (Q_met_lockedCount G o ad g f q (wA (S_met_lockedCount G o ad g f q) sz)) 0 0 (wA (S_met_lockedCount G o ad g f q) sz) := sorry
abbrev S_met_isClosed (G : GX) (o : Nat) (ad : Nat → Nat) (g : Nat → Int32) (f : Nat → Int64) : List va_W := [[(o, wo 5 (mo ad (ad 0) g))], [(ad 0, wL G 208 f)]]
abbrev Q_met_isClosed (G : GX) (o : Nat) (ad : Nat → Nat) (g : Nat → Int32) (f : Nat → Int64) (A : Nat → Prop) := wQi' G (fun (r : Int32) (z : Unit) => r = if f 5 = 1 then nI 1 else nI 0) (fun (z : Unit) => ([[(o, wo 5 (mo ad (ad 0) (upd g 1 (nI 0))))], [(ad 0, wL G 208 f)]] : List va_W)) A
set_option maxHeartbeats 8000000 in
set_option maxRecDepth 100000 in
theorem met_isClosed (l : Launch) (G : GX) (sz : Nat) (o : Nat) (ad : Nat → Nat) (g : Nat → Int32) (f : Nat → Int64)  : Met l yX6_isClosed (ws_ yX6_isClosed cX6_isClosed 1 (some .boolean)) ({ frames := 0, cells := 0, slots := 0, locals := 0 }) (va_Pc [.ref o] (wPre G (S_met_isClosed G o ad g f) sz)) (Q_met_isClosed G o ad g f (wA (S_met_isClosed G o ad g f) sz)) 0 0 (wA (S_met_isClosed G o ad g f) sz) := sorry
abbrev S_met_alpha (G : GX) (o : Nat) (ad : Nat → Nat) (g : Nat → Int32) (f : Nat → Int64) (m : Nat) (x : Int32) : List va_W := [[(o, wo 5 (mo ad (ad 0) g))], [(ad 0, wL G 208 f)]]
abbrev Q_met_alpha (G : GX) (o : Nat) (ad : Nat → Nat) (g : Nat → Int32) (f : Nat → Int64) (m : Nat) (x : Int32) (A : Nat → Prop) := wQi' G (fun (r : Int32) (z : Unit) => r = if 0 ≤ x ∧ x < nI m then (f (96 + x.toNatClampNeg)).toInt32 else nI 0) (fun (z : Unit) => ([[(o, wo 5 (mo ad (ad 0) (upd g 1 (if 0 ≤ x ∧ x < nI m then nI 0 else nI 1))))], [(ad 0, wL G 208 f)]] : List va_W)) A
set_option maxHeartbeats 8000000 in
set_option maxRecDepth 100000 in
theorem met_alpha (l : Launch) (G : GX) (sz : Nat) (o : Nat) (ad : Nat → Nat) (g : Nat → Int32) (f : Nat → Int64) (m : Nat) (x : Int32) (h4 : f 4 = lN m) (hm : m ≤ 6) : Met l yX6_alpha (ws_ yX6_alpha cX6_alpha 2 (some .int)) ({ frames := 2, cells := 0, slots := 0, locals := 46 }) (va_Pc [.ref o, .int x] (wPre G (S_met_alpha G o ad g f m x) sz)) (Q_met_alpha G o ad g f m x (wA (S_met_alpha G o ad g f m x) sz)) 0 0 (wA (S_met_alpha G o ad g f m x) sz) := sorry
abbrev S_met_beta (G : GX) (o : Nat) (ad : Nat → Nat) (g : Nat → Int32) (f : Nat → Int64) (m : Nat) (x : Int32) : List va_W := [[(o, wo 5 (mo ad (ad 0) g))], [(ad 0, wL G 208 f)]]
abbrev Q_met_beta (G : GX) (o : Nat) (ad : Nat → Nat) (g : Nat → Int32) (f : Nat → Int64) (m : Nat) (x : Int32) (A : Nat → Prop) := wQi' G (fun (r : Int32) (z : Unit) => r = if 0 ≤ x ∧ x < nI m then (f (102 + x.toNatClampNeg)).toInt32 else nI 0) (fun (z : Unit) => ([[(o, wo 5 (mo ad (ad 0) (upd g 1 (if 0 ≤ x ∧ x < nI m then nI 0 else nI 1))))], [(ad 0, wL G 208 f)]] : List va_W)) A
set_option maxHeartbeats 8000000 in
set_option maxRecDepth 100000 in
theorem met_beta (l : Launch) (G : GX) (sz : Nat) (o : Nat) (ad : Nat → Nat) (g : Nat → Int32) (f : Nat → Int64) (m : Nat) (x : Int32) (h4 : f 4 = lN m) (hm : m ≤ 6) : Met l yX6_beta (ws_ yX6_beta cX6_beta 2 (some .int)) ({ frames := 2, cells := 0, slots := 0, locals := 46 }) (va_Pc [.ref o, .int x] (wPre G (S_met_beta G o ad g f m x) sz)) (Q_met_beta G o ad g f m x (wA (S_met_beta G o ad g f m x) sz)) 0 0 (wA (S_met_beta G o ad g f m x) sz) := sorry
abbrev S_met_value (G : GX) (o : Nat) (ad : Nat → Nat) (g : Nat → Int32) (f : Nat → Int64) (m : Nat) (x : Int32) : List va_W := [[(o, wo 5 (mo ad (ad 0) g))], [(ad 0, wL G 208 f)]]
abbrev Q_met_value (G : GX) (o : Nat) (ad : Nat → Nat) (g : Nat → Int32) (f : Nat → Int64) (m : Nat) (x : Int32) (A : Nat → Prop) := wQi' G (fun (r : Int32) (z : Unit) => r = if 0 ≤ x ∧ x < nI m then (sVal f m x.toNatClampNeg).toInt32 else nI 0) (fun (z : Unit) => ([[(o, wo 5 (mo ad (ad 0) (upd g 1 (if 0 ≤ x ∧ x < nI m then nI 0 else nI 1))))], [(ad 0, wL G 208 f)]] : List va_W)) A
set_option maxHeartbeats 8000000 in
set_option maxRecDepth 100000 in
theorem met_value (l : Launch) (G : GX) (sz : Nat) (o : Nat) (ad : Nat → Nat) (g : Nat → Int32) (f : Nat → Int64) (m : Nat) (x : Int32) (h4 : f 4 = lN m) (hm : m ≤ 6) : Met l yX6_value (ws_ yX6_value cX6_value 2 (some .int)) ({ frames := 3, cells := 0, slots := 0, locals := 80 }) (va_Pc [.ref o, .int x] (wPre G (S_met_value G o ad g f m x) sz)) (Q_met_value G o ad g f m x (wA (S_met_value G o ad g f m x) sz)) 0 0 (wA (S_met_value G o ad g f m x) sz) := sorry
abbrev S_met_bound (G : GX) (o : Nat) (ad : Nat → Nat) (g : Nat → Int32) (f : Nat → Int64) (m : Nat) (u0 : Nat → Int64) (x : Int32) : List va_W := [[(o, wo 5 (mo ad (ad 0) g))], [(ad 0, wL G 208 f)], [(ad 8, wL G 6 u0)]]
abbrev Q_met_bound (G : GX) (o : Nat) (ad : Nat → Nat) (g : Nat → Int32) (f : Nat → Int64) (m : Nat) (u0 : Nat → Int64) (x : Int32) (A : Nat → Prop) := wQi' G (fun (r : Int32) (z : Nat → Int64) => r = if 0 ≤ x ∧ x < nI m then (sBnd rootM f m x.toNatClampNeg).toInt32 else nI 0) (fun (z : Nat → Int64) => ([[(o, wo 5 (mo ad (ad 0) (upd g 1 (if 0 ≤ x ∧ x < nI m then nI 0 else nI 1))))], [(ad 0, wL G 208 f)], [(ad 8, wL G 6 z)]] : List va_W)) A
set_option maxHeartbeats 8000000 in
set_option maxRecDepth 100000 in
theorem met_bound (l : Launch) (G : GX) (sz : Nat) (o : Nat) (ad : Nat → Nat) (g : Nat → Int32) (f : Nat → Int64) (m : Nat) (u0 : Nat → Int64) (x : Int32) (h4 : f 4 = lN m) (hm : m ≤ 6) (hbt : ∀ j, j + 1 < m → ¬ f (102 + j) = 0) : Met l yX6_bound (ws_ yX6_bound cX6_bound 2 (some .int)) ({ frames := 4, cells := 0, slots := 0, locals := 109 }) (va_Pc [.ref o, .int x] (wPre G (S_met_bound G o ad g f m u0 x) sz)) (Q_met_bound G o ad g f m u0 x (wA (S_met_bound G o ad g f m u0 x) sz)) 0 0 (wA (S_met_bound G o ad g f m u0 x) sz) := sorry
end
section
theorem ss_ifle (y : Int32) {a : Nat} (ha : a < 2 ^ 30) {α : Type} (u v : α) : (if (0 : Int64) ≤ y.toInt64 ∧ y.toInt64 ≤ lN a then u else v) = (if 0 ≤ y ∧ y < nI (a + 1) then u else v) := sorry
theorem ss_if3 (y : Int32) {α : Type} (u v : α) : (if (0 : Int64) ≤ y.toInt64 ∧ y.toInt64 ≤ 2 then u else v) = (if 0 ≤ y ∧ y < nI 3 then u else v) := sorry
theorem ss_if4 (y : Int32) {α : Type} (u v : α) : (if (0 : Int64) ≤ y.toInt64 ∧ y.toInt64 ≤ 3 then u else v) = (if 0 ≤ y ∧ y < nI 4 then u else v) := sorry
abbrev S_met_entry (G : GX) (o : Nat) (ad : Nat → Nat) (g : Nat → Int32) (f : Nat → Int64) (n : Nat) (x : Int32) (y : Int32) : List va_W := [[(o, wo 5 (mo ad (ad 0) g))], [(ad 0, wL G 208 f)]]
abbrev Q_met_entry (G : GX) (o : Nat) (ad : Nat → Nat) (g : Nat → Int32) (f : Nat → Int64) (n : Nat) (x : Int32) (y : Int32) (A : Nat → Prop) := wQi' G (fun (r : Int32) (z : Unit) => r = if (0 ≤ x ∧ x < nI n) ∧ (0 ≤ y ∧ y < nI n) then (f (18 + 6 * x.toNatClampNeg + y.toNatClampNeg)).toInt32 else nI 0) (fun (z : Unit) => ([[(o, wo 5 (mo ad (ad 0) (upd g 1 (if (0 ≤ x ∧ x < nI n) ∧ (0 ≤ y ∧ y < nI n) then nI 0 else nI 1))))], [(ad 0, wL G 208 f)]] : List va_W)) A
set_option maxHeartbeats 8000000 in
set_option maxRecDepth 100000 in
theorem met_entry (l : Launch) (G : GX) (sz : Nat) (o : Nat) (ad : Nat → Nat) (g : Nat → Int32) (f : Nat → Int64) (n : Nat) (x : Int32) (y : Int32) (h0 : f 0 = lN n) (hn : n ≤ 6) : Met l yX6_entry (ws_ yX6_entry cX6_entry 3 (some .int)) ({ frames := 2, cells := 0, slots := 0, locals := 46 }) (va_Pc [.ref o, .int x, .int y] (wPre G (S_met_entry G o ad g f n x y) sz)) (Q_met_entry G o ad g f n x y (wA (S_met_entry G o ad g f n x y) sz)) 0 0 (wA (S_met_entry G o ad g f n x y) sz) := sorry
abbrev S_met_basis (G : GX) (o : Nat) (ad : Nat → Nat) (g : Nat → Int32) (f : Nat → Int64) (n : Nat) (m : Nat) (x : Int32) (y : Int32) : List va_W := [[(o, wo 5 (mo ad (ad 0) g))], [(ad 0, wL G 208 f)]]
abbrev Q_met_basis (G : GX) (o : Nat) (ad : Nat → Nat) (g : Nat → Int32) (f : Nat → Int64) (n : Nat) (m : Nat) (x : Int32) (y : Int32) (A : Nat → Prop) := wQi' G (fun (r : Int32) (z : Unit) => r = if (0 ≤ x ∧ x < nI (m + (if f 5 = 1 then 0 else 1))) ∧ (0 ≤ y ∧ y < nI n) then (f (54 + 6 * x.toNatClampNeg + y.toNatClampNeg)).toInt32 else nI 0) (fun (z : Unit) => ([[(o, wo 5 (mo ad (ad 0) (upd g 1 (if (0 ≤ x ∧ x < nI (m + (if f 5 = 1 then 0 else 1))) ∧ (0 ≤ y ∧ y < nI n) then nI 0 else nI 1))))], [(ad 0, wL G 208 f)]] : List va_W)) A
set_option maxHeartbeats 8000000 in
set_option maxRecDepth 100000 in
theorem met_basis (l : Launch) (G : GX) (sz : Nat) (o : Nat) (ad : Nat → Nat) (g : Nat → Int32) (f : Nat → Int64) (n : Nat) (m : Nat) (x : Int32) (y : Int32) (h0 : f 0 = lN n) (h4 : f 4 = lN m) (hn : n ≤ 6) (hm : m ≤ 6) : Met l yX6_basis (ws_ yX6_basis cX6_basis 3 (some .int)) ({ frames := 3, cells := 0, slots := 0, locals := 61 }) (va_Pc [.ref o, .int x, .int y] (wPre G (S_met_basis G o ad g f n m x y) sz)) (Q_met_basis G o ad g f n m x y (wA (S_met_basis G o ad g f n m x y) sz)) 0 0 (wA (S_met_basis G o ad g f n m x y) sz) := sorry
abbrev S_met_lockedVector (G : GX) (o : Nat) (ad : Nat → Nat) (g : Nat → Int32) (f : Nat → Int64) (n : Nat) (q : Nat) (x : Int32) (y : Int32) : List va_W := [[(o, wo 5 (mo ad (ad 0) g))], [(ad 0, wL G 208 f)]]
abbrev Q_met_lockedVector (G : GX) (o : Nat) (ad : Nat → Nat) (g : Nat → Int32) (f : Nat → Int64) (n : Nat) (q : Nat) (x : Int32) (y : Int32) (A : Nat → Prop) := wQi' G (fun (r : Int32) (z : Unit) => r = if (0 ≤ x ∧ x < nI q) ∧ (0 ≤ y ∧ y < nI n) then (f (157 + 8 * x.toNatClampNeg + (2 + y.toNatClampNeg))).toInt32 else nI 0) (fun (z : Unit) => ([[(o, wo 5 (mo ad (ad 0) (upd g 1 (if (0 ≤ x ∧ x < nI q) ∧ (0 ≤ y ∧ y < nI n) then nI 0 else nI 1))))], [(ad 0, wL G 208 f)]] : List va_W)) A
set_option maxHeartbeats 8000000 in
set_option maxRecDepth 100000 in
theorem met_lockedVector (l : Launch) (G : GX) (sz : Nat) (o : Nat) (ad : Nat → Nat) (g : Nat → Int32) (f : Nat → Int64) (n : Nat) (q : Nat) (x : Int32) (y : Int32) (h0 : f 0 = lN n) (h6 : f 6 = lN q) (hn : n ≤ 6) (hq : q ≤ 6) : Met l yX6_lockedVector (ws_ yX6_lockedVector cX6_lockedVector 3 (some .int)) ({ frames := 2, cells := 0, slots := 0, locals := 46 }) (va_Pc [.ref o, .int x, .int y] (wPre G (S_met_lockedVector G o ad g f n q x y) sz)) (Q_met_lockedVector G o ad g f n q x y (wA (S_met_lockedVector G o ad g f n q x y) sz)) 0 0 (wA (S_met_lockedVector G o ad g f n q x y) sz) := sorry
abbrev S_met_ritz (G : GX) (o : Nat) (ad : Nat → Nat) (g : Nat → Int32) (f : Nat → Int64) (n : Nat) (m : Nat) (u0 : Nat → Int64) (t0 : Nat → Int64) (x : Int32) (y : Int32) : List va_W := [[(o, wo 5 (mo ad (ad 0) g))], [(ad 0, wL G 208 f)], [(ad 8, wL G 6 u0)], [(ad 7, wL G 6 t0)]]
abbrev Q_met_ritz (G : GX) (o : Nat) (ad : Nat → Nat) (g : Nat → Int32) (f : Nat → Int64) (n : Nat) (m : Nat) (u0 : Nat → Int64) (t0 : Nat → Int64) (x : Int32) (y : Int32) (A : Nat → Prop) := wQi' G (fun (r : Int32) (z : (Nat → Int64) × (Nat → Int64)) => r = if (0 ≤ x ∧ x < nI m) ∧ (0 ≤ y ∧ y < nI n) then (vRitz rootM n f m x.toNatClampNeg y.toNatClampNeg).toInt32 else nI 0) (fun (z : (Nat → Int64) × (Nat → Int64)) => ([[(o, wo 5 (mo ad (ad 0) (upd g 1 (if (0 ≤ x ∧ x < nI m) ∧ (0 ≤ y ∧ y < nI n) then nI 0 else nI 1))))], [(ad 0, wL G 208 f)], [(ad 8, wL G 6 z.1)], [(ad 7, wL G 6 z.2)]] : List va_W)) A
set_option maxHeartbeats 8000000 in
set_option maxRecDepth 100000 in
theorem met_ritz (l : Launch) (G : GX) (sz : Nat) (o : Nat) (ad : Nat → Nat) (g : Nat → Int32) (f : Nat → Int64) (n : Nat) (m : Nat) (u0 : Nat → Int64) (t0 : Nat → Int64) (x : Int32) (y : Int32) (h0 : f 0 = lN n) (h4 : f 4 = lN m) (hn : n ≤ 6) (hm : m ≤ 6) (hbt : ∀ j, j + 1 < m → ¬ f (102 + j) = 0) : Met l yX6_ritz (ws_ yX6_ritz cX6_ritz 3 (some .int)) ({ frames := 4, cells := 0, slots := 0, locals := 113 }) (va_Pc [.ref o, .int x, .int y] (wPre G (S_met_ritz G o ad g f n m u0 t0 x y) sz)) (Q_met_ritz G o ad g f n m u0 t0 x y (wA (S_met_ritz G o ad g f n m u0 t0 x y) sz)) 0 0 (wA (S_met_ritz G o ad g f n m u0 t0 x y) sz) := sorry
abbrev S_met_estimate (G : GX) (o : Nat) (ad : Nat → Nat) (g : Nat → Int32) (f : Nat → Int64) (m : Nat) (x : Int32) (y : Int32) : List va_W := [[(o, wo 5 (mo ad (ad 0) g))], [(ad 0, wL G 208 f)]]
abbrev Q_met_estimate (G : GX) (o : Nat) (ad : Nat → Nat) (g : Nat → Int32) (f : Nat → Int64) (m : Nat) (x : Int32) (y : Int32) (A : Nat → Prop) := wQi' G (fun (r : Int32) (z : Unit) => r = if (0 ≤ x ∧ x < nI (m + (if f 5 = 1 then 0 else 1))) ∧ (0 ≤ y ∧ y < x + 1) then (sTold f x y).toInt32 else nI 0) (fun (z : Unit) => ([[(o, wo 5 (mo ad (ad 0) (upd g 1 (if (0 ≤ x ∧ x < nI (m + (if f 5 = 1 then 0 else 1))) ∧ (0 ≤ y ∧ y < x + 1) then nI 0 else nI 1))))], [(ad 0, wL G 208 f)]] : List va_W)) A
set_option maxHeartbeats 8000000 in
set_option maxRecDepth 100000 in
theorem met_estimate (l : Launch) (G : GX) (sz : Nat) (o : Nat) (ad : Nat → Nat) (g : Nat → Int32) (f : Nat → Int64) (m : Nat) (x : Int32) (y : Int32) (h4 : f 4 = lN m) (hm : m ≤ 6) : Met l yX6_estimate (ws_ yX6_estimate cX6_estimate 3 (some .int)) ({ frames := 3, cells := 0, slots := 0, locals := 61 }) (va_Pc [.ref o, .int x, .int y] (wPre G (S_met_estimate G o ad g f m x y) sz)) (Q_met_estimate G o ad g f m x y (wA (S_met_estimate G o ad g f m x y) sz)) 0 0 (wA (S_met_estimate G o ad g f m x y) sz) := sorry
abbrev S_met_setting (G : GX) (o : Nat) (ad : Nat → Nat) (g : Nat → Int32) (f : Nat → Int64) (x : Int32) : List va_W := [[(o, wo 5 (mo ad (ad 0) g))], [(ad 0, wL G 208 f)]]
abbrev Q_met_setting (G : GX) (o : Nat) (ad : Nat → Nat) (g : Nat → Int32) (f : Nat → Int64) (x : Int32) (A : Nat → Prop) := wQi' G (fun (r : Int32) (z : Unit) => r = if 0 ≤ x ∧ x < nI 3 then (f (1 + x.toNatClampNeg)).toInt32 else nI 0) (fun (z : Unit) => ([[(o, wo 5 (mo ad (ad 0) (upd g 1 (if 0 ≤ x ∧ x < nI 3 then nI 0 else nI 1))))], [(ad 0, wL G 208 f)]] : List va_W)) A
set_option maxHeartbeats 8000000 in
set_option maxRecDepth 100000 in
theorem met_setting (l : Launch) (G : GX) (sz : Nat) (o : Nat) (ad : Nat → Nat) (g : Nat → Int32) (f : Nat → Int64) (x : Int32)  : Met l yX6_setting (ws_ yX6_setting cX6_setting 2 (some .int)) ({ frames := 1, cells := 0, slots := 0, locals := 25 }) (va_Pc [.ref o, .int x] (wPre G (S_met_setting G o ad g f x) sz)) (Q_met_setting G o ad g f x (wA (S_met_setting G o ad g f x) sz)) 0 0 (wA (S_met_setting G o ad g f x) sz) := sorry
abbrev S_met_total (G : GX) (o : Nat) (ad : Nat → Nat) (g : Nat → Int32) (f : Nat → Int64) (x : Int32) : List va_W := [[(o, wo 5 (mo ad (ad 0) g))], [(ad 0, wL G 208 f)]]
abbrev Q_met_total (G : GX) (o : Nat) (ad : Nat → Nat) (g : Nat → Int32) (f : Nat → Int64) (x : Int32) (A : Nat → Prop) := wQi' G (fun (r : Int32) (z : Unit) => r = if 0 ≤ x ∧ x < nI 4 then (f (7 + x.toNatClampNeg)).toInt32 else -1) (fun (z : Unit) => ([[(o, wo 5 (mo ad (ad 0) (upd g 1 (nI 0))))], [(ad 0, wL G 208 f)]] : List va_W)) A
set_option maxHeartbeats 8000000 in
set_option maxRecDepth 100000 in
theorem met_total (l : Launch) (G : GX) (sz : Nat) (o : Nat) (ad : Nat → Nat) (g : Nat → Int32) (f : Nat → Int64) (x : Int32)  : Met l yX6_total (ws_ yX6_total cX6_total 2 (some .int)) ({ frames := 1, cells := 0, slots := 0, locals := 25 }) (va_Pc [.ref o, .int x] (wPre G (S_met_total G o ad g f x) sz)) (Q_met_total G o ad g f x (wA (S_met_total G o ad g f x) sz)) 0 0 (wA (S_met_total G o ad g f x) sz) := sorry
abbrev S_met_residual (G : GX) (o : Nat) (ad : Nat → Nat) (g : Nat → Int32) (f : Nat → Int64) (n : Nat) (m : Nat) (u0 : Nat → Int64) (t0 : Nat → Int64) (p0 : Nat → Int64) (x : Int32) : List va_W := [[(o, wo 5 (mo ad (ad 0) g))], [(ad 0, wL G 208 f)], [(ad 8, wL G 6 u0)], [(ad 7, wL G 6 t0)], [(ad 6, wL G 6 p0)]]
abbrev Q_met_residual (G : GX) (o : Nat) (ad : Nat → Nat) (g : Nat → Int32) (f : Nat → Int64) (n : Nat) (m : Nat) (u0 : Nat → Int64) (t0 : Nat → Int64) (p0 : Nat → Int64) (x : Int32) (A : Nat → Prop) := wQi' G (fun (r : Int32) (z : (Nat → Int64) × (Nat → Int64) × (Nat → Int64)) => r = if 0 ≤ x ∧ x < nI m then (sRes rootM n f (sVal f m x.toNatClampNeg) (vRitz rootM n f m x.toNatClampNeg)).toInt32 else nI 0) (fun (z : (Nat → Int64) × (Nat → Int64) × (Nat → Int64)) => ([[(o, wo 5 (mo ad (ad 0) (upd g 1 (if 0 ≤ x ∧ x < nI m then nI 0 else nI 1))))], [(ad 0, wL G 208 f)], [(ad 8, wL G 6 z.1)], [(ad 7, wL G 6 z.2.1)], [(ad 6, wL G 6 z.2.2)]] : List va_W)) A
set_option maxHeartbeats 8000000 in
set_option maxRecDepth 100000 in
theorem met_residual (l : Launch) (G : GX) (sz : Nat) (o : Nat) (ad : Nat → Nat) (g : Nat → Int32) (f : Nat → Int64) (n : Nat) (m : Nat) (u0 : Nat → Int64) (t0 : Nat → Int64) (p0 : Nat → Int64) (x : Int32) (h0 : f 0 = lN n) (h4 : f 4 = lN m) (hn : n ≤ 6) (hm : m ≤ 6) (hbt : ∀ j, j + 1 < m → ¬ f (102 + j) = 0) : Met l yX6_residual (ws_ yX6_residual cX6_residual 2 (some .int)) ({ frames := 4, cells := 0, slots := 0, locals := 113 }) (va_Pc [.ref o, .int x] (wPre G (S_met_residual G o ad g f n m u0 t0 p0 x) sz)) (Q_met_residual G o ad g f n m u0 t0 p0 x (wA (S_met_residual G o ad g f n m u0 t0 p0 x) sz)) 0 0 (wA (S_met_residual G o ad g f n m u0 t0 p0 x) sz) := sorry
abbrev S_met_countBelow (G : GX) (o : Nat) (ad : Nat → Nat) (g : Nat → Int32) (f : Nat → Int64) (m : Nat) (x : Int32) : List va_W := [[(o, wo 5 (mo ad (ad 0) g))], [(ad 0, wL G 208 f)]]
abbrev Q_met_countBelow (G : GX) (o : Nat) (ad : Nat → Nat) (g : Nat → Int32) (f : Nat → Int64) (m : Nat) (x : Int32) (A : Nat → Prop) := wQi' G (fun (r : Int32) (z : Unit) => r = nI (sCnt f x.toInt64 m)) (fun (z : Unit) => ([[(o, wo 5 (mo ad (ad 0) (upd g 1 (nI 0))))], [(ad 0, wL G 208 f)]] : List va_W)) A
set_option maxHeartbeats 8000000 in
set_option maxRecDepth 100000 in
theorem met_countBelow (l : Launch) (G : GX) (sz : Nat) (o : Nat) (ad : Nat → Nat) (g : Nat → Int32) (f : Nat → Int64) (m : Nat) (x : Int32) (h4 : f 4 = lN m) (hm : m ≤ 6) : Met l yX6_countBelow (ws_ yX6_countBelow cX6_countBelow 2 (some .int)) ({ frames := 2, cells := 0, slots := 0, locals := 53 }) (va_Pc [.ref o, .int x] (wPre G (S_met_countBelow G o ad g f m x) sz)) (Q_met_countBelow G o ad g f m x (wA (S_met_countBelow G o ad g f m x) sz)) 0 0 (wA (S_met_countBelow G o ad g f m x) sz) := sorry
end
section
/-! an array's content may be said otherwise, where it agrees -/
theorem wx_eqL {G : GX} {a n : Nat} {f f' : Nat → Int64} {H : Heap} (h : ∀ k, k < n → f k = f' k) (hq : va_at G.1 vwCl (a, wL G n f) H) : va_at G.1 vwCl (a, wL G n f') H := sorry
theorem wP.reL {G : GX} {S : List va_W} {H : Heap} (hP : wP G.1 vwCl S H) (i : Nat) {a n : Nat} {f : Nat → Int64} (hi : S[i]? = some [(a, wL G n f)]) (f' : Nat → Int64) (h : ∀ k, k < n → f k = f' k) : wP G.1 vwCl (S.set i [(a, wL G n f')]) H := sorry
theorem wx_set1 {S : List va_W} {i a : Nat} {e e' : va_E} (hi : S[i]? = some [(a, e)]) {A : Nat → Prop} (hD : wD A S) : wD A (S.set i [(a, e')]) := sorry
theorem wx_eqI {G : GX} {a n : Nat} {f f' : Nat → Int32} {H : Heap} (h : ∀ k, k < n → f k = f' k) (hq : va_at G.1 vwCl (a, wI G n f) H) : va_at G.1 vwCl (a, wI G n f') H := sorry
theorem wP.reI {G : GX} {S : List va_W} {H : Heap} (hP : wP G.1 vwCl S H) (i : Nat) {a n : Nat} {f : Nat → Int32} (hi : S[i]? = some [(a, wI G n f)]) (f' : Nat → Int32) (h : ∀ k, k < n → f k = f' k) : wP G.1 vwCl (S.set i [(a, wI G n f')]) H := sorry
theorem cpy_all {f t : Nat → Int64} : ∀ k, k < 208 → va_cpy f t (208 * 0) (208 * 0) 208 k = f k := sorry
/-- what betas are: 0 only where the space is closed by -/
def sBt (f : Nat → Int64) (m : Nat) : Prop := (∀ j, j + 1 < m → ¬ f (102 + j) = 0) ∧ (f 5 = 0 → ∀ j, j < m → ¬ f (102 + j) = 0)
theorem sBt.hbt {f : Nat → Int64} {m : Nat} (h : sBt f m) : ∀ j, j + 1 < m → ¬ f (102 + j) = 0 := sorry
theorem sBt_0 {f : Nat → Int64} : sBt f 0 := sorry
theorem sBt_congr {f f' : Nat → Int64} {m : Nat} (hm : m ≤ 6) (h : ∀ j, j < 108 → 102 ≤ j → f' j = f j) (h5 : f' 5 = f 5) (hB : sBt f m) : sBt f' m := sorry
theorem sBt_step {R : Int64 → Int64} {n q : Nat} {f : Nat → Int64} {m : Nat} (hn : n ≤ 6) (hm : m ≤ 5) (h : sBt f m) (h5 : f 5 = 0) : sBt (fStep R n q f m) (m + 1) := sorry
end
section
def bHas (R : Int64 → Int64) (f : Nat → Int64) (m : Nat) : Nat → Bool
  | 0 => false
  | k + 1 => if sBnd R f m k ≤ f 3 then true else bHas R f m k
/-- none of the first k: the rest decides -/
def bHasR (R : Int64 → Int64) (f : Nat → Int64) (m : Nat) : Nat → Bool
  | 0 => false
  | t + 1 => if sBnd R f m (m - (t + 1)) ≤ f 3 then true else bHasR R f m t
def sFirst (P : Nat → Bool) (q : Nat) : Nat → Int32
  | 0 => -1
  | t + 1 => if P (q - (t + 1)) = true then nI (q - (t + 1)) else sFirst P q t
def sNear (f : Nat → Int64) (m : Nat) (x : Int32) : Nat → Int32 × Int64
  | 0 => (-1, 0)
  | k + 1 => if (sNear f m x k).1 = -1 ∨ aAbs (sVal f m k - x.toInt64) < (sNear f m x k).2 then (nI k, aAbs (sVal f m k - x.toInt64)) else sNear f m x k
def aMax (x y : Int64) : Int64 := if y < x then x else y
def lossI (n : Nat) (f : Nat → Int64) (k : Nat) (g : Int64) : Nat → Int64
  | 0 => g
  | j + 1 => aMax (lossI n f k g j) (aAbs (sDot n (sAt f (54 + 6 * j)) (sAt f (54 + 6 * k))))
def sLoss (n : Nat) (f : Nat → Int64) : Nat → Int64
  | 0 => 0
  | k + 1 => lossI n f k (sLoss n f k) k
def sBroken (R : Int64 → Int64) (n : Nat) (f : Nat → Int64) (x : Int32) (k : Nat) : Bool := decide (f (157 + 8 * k + 1) + x.toInt64 < sLres R n f k)

abbrev S_met_hasConverged (G : GX) (o : Nat) (ad : Nat → Nat) (lb : Nat) (g : Nat → Int32) (f : Nat → Int64) (m : Nat) (u0 : Nat → Int64) : List va_W := [[(o, wo 5 (mo ad lb g))], [(lb, wL G 208 f)], [(ad 8, wL G 6 u0)]]
abbrev Q_met_hasConverged (G : GX) (o : Nat) (ad : Nat → Nat) (lb : Nat) (g : Nat → Int32) (f : Nat → Int64) (m : Nat) (u0 : Nat → Int64) (A : Nat → Prop) := wQi' G (fun (r : Int32) (z : Nat → Int64) => r = if bHasR rootM f m m = true then nI 1 else nI 0) (fun (z : Nat → Int64) => ([[(o, wo 5 (mo ad lb g))], [(lb, wL G 208 f)], [(ad 8, wL G 6 z)]] : List va_W)) A
set_option maxHeartbeats 8000000 in
set_option maxRecDepth 100000 in
theorem met_hasConverged (l : Launch) (G : GX) (sz : Nat) (o : Nat) (ad : Nat → Nat) (lb : Nat) (g : Nat → Int32) (f : Nat → Int64) (m : Nat) (u0 : Nat → Int64) (h4 : f 4 = lN m) (hm : m ≤ 6) (hbt : ∀ j, j + 1 < m → ¬ f (102 + j) = 0) : Met l yX6_hasConverged (ws_ yX6_hasConverged cX6_hasConverged 2 (some .boolean)) ({ frames := 4, cells := 0, slots := 0, locals := 109 }) (va_Pc [.ref o] (wPre G (S_met_hasConverged G o ad lb g f m u0) sz)) (Q_met_hasConverged G o ad lb g f m u0 (wA (S_met_hasConverged G o ad lb g f m u0) sz)) 0 0 (wA (S_met_hasConverged G o ad lb g f m u0) sz) := sorry
abbrev S_met_nearest (G : GX) (o : Nat) (ad : Nat → Nat) (g : Nat → Int32) (f : Nat → Int64) (m : Nat) (x : Int32) : List va_W := [[(o, wo 5 (mo ad (ad 0) g))], [(ad 0, wL G 208 f)]]
abbrev Q_met_nearest (G : GX) (o : Nat) (ad : Nat → Nat) (g : Nat → Int32) (f : Nat → Int64) (m : Nat) (x : Int32) (A : Nat → Prop) := wQi' G (fun (r : Int32) (z : Unit) => r = (sNear f m x m).1) (fun (z : Unit) => ([[(o, wo 5 (mo ad (ad 0) (upd g 1 (nI 0))))], [(ad 0, wL G 208 f)]] : List va_W)) A
set_option maxHeartbeats 8000000 in
set_option maxRecDepth 100000 in
theorem met_nearest (l : Launch) (G : GX) (sz : Nat) (o : Nat) (ad : Nat → Nat) (g : Nat → Int32) (f : Nat → Int64) (m : Nat) (x : Int32) (h4 : f 4 = lN m) (hm : m ≤ 6) : Met l yX6_nearest (ws_ yX6_nearest cX6_nearest 8 (some .int)) ({ frames := 3, cells := 0, slots := 0, locals := 80 }) (va_Pc [.ref o, .int x] (wPre G (S_met_nearest G o ad g f m x) sz)) (Q_met_nearest G o ad g f m x (wA (S_met_nearest G o ad g f m x) sz)) 0 0 (wA (S_met_nearest G o ad g f m x) sz) := sorry
abbrev S_met_loss (G : GX) (o : Nat) (ad : Nat → Nat) (g : Nat → Int32) (f : Nat → Int64) (n : Nat) (m : Nat) : List va_W := [[(o, wo 5 (mo ad (ad 0) g))], [(ad 0, wL G 208 f)]]
abbrev Q_met_loss (G : GX) (o : Nat) (ad : Nat → Nat) (g : Nat → Int32) (f : Nat → Int64) (n : Nat) (m : Nat) (A : Nat → Prop) := wQi' G (fun (r : Int32) (z : Unit) => r = (sLoss n f (m + (if f 5 = 1 then 0 else 1))).toInt32) (fun (z : Unit) => ([[(o, wo 5 (mo ad (ad 0) (upd g 1 (nI 0))))], [(ad 0, wL G 208 f)]] : List va_W)) A
set_option maxHeartbeats 8000000 in
set_option maxRecDepth 100000 in
theorem met_loss (l : Launch) (G : GX) (sz : Nat) (o : Nat) (ad : Nat → Nat) (g : Nat → Int32) (f : Nat → Int64) (n : Nat) (m : Nat) (h0 : f 0 = lN n) (h4 : f 4 = lN m) (hn : n ≤ 6) (hm : m ≤ 6) (hnm : m ≤ n) : Met l yX6_loss (ws_ yX6_loss cX6_loss 5 (some .int)) ({ frames := 2, cells := 0, slots := 0, locals := 52 }) (va_Pc [.ref o] (wPre G (S_met_loss G o ad g f n m) sz)) (Q_met_loss G o ad g f n m (wA (S_met_loss G o ad g f n m) sz)) 0 0 (wA (S_met_loss G o ad g f n m) sz) := sorry
abbrev S_met_locked (G : GX) (o : Nat) (ad : Nat → Nat) (g : Nat → Int32) (f : Nat → Int64) (n : Nat) (q : Nat) (u0 : Nat → Int64) (x : Int32) (y : Int32) : List va_W := [[(o, wo 5 (mo ad (ad 0) g))], [(ad 0, wL G 208 f)], [(ad 6, wL G 6 u0)]]
abbrev Q_met_locked (G : GX) (o : Nat) (ad : Nat → Nat) (g : Nat → Int32) (f : Nat → Int64) (n : Nat) (q : Nat) (u0 : Nat → Int64) (x : Int32) (y : Int32) (A : Nat → Prop) := wQi' G (fun (r : Int32) (z : Nat → Int64) => r = if (0 ≤ x ∧ x < nI q) ∧ (0 ≤ y ∧ y < nI 3) then (if y = nI 2 then sLres rootM n f x.toNatClampNeg else f (157 + 8 * x.toNatClampNeg + y.toNatClampNeg)).toInt32 else nI 0) (fun (z : Nat → Int64) => ([[(o, wo 5 (mo ad (ad 0) (upd g 1 (if (0 ≤ x ∧ x < nI q) ∧ (0 ≤ y ∧ y < nI 3) then nI 0 else nI 1))))], [(ad 0, wL G 208 f)], [(ad 6, wL G 6 z)]] : List va_W)) A
set_option maxHeartbeats 8000000 in
set_option maxRecDepth 100000 in
theorem met_locked (l : Launch) (G : GX) (sz : Nat) (o : Nat) (ad : Nat → Nat) (g : Nat → Int32) (f : Nat → Int64) (n : Nat) (q : Nat) (u0 : Nat → Int64) (x : Int32) (y : Int32) (h0 : f 0 = lN n) (h6 : f 6 = lN q) (hn : n ≤ 6) (hq : q ≤ 6) : Met l yX6_locked (ws_ yX6_locked cX6_locked 3 (some .int)) ({ frames := 4, cells := 0, slots := 0, locals := 96 }) (va_Pc [.ref o, .int x, .int y] (wPre G (S_met_locked G o ad g f n q u0 x y) sz)) (Q_met_locked G o ad g f n q u0 x y (wA (S_met_locked G o ad g f n q u0 x y) sz)) 0 0 (wA (S_met_locked G o ad g f n q u0 x y) sz) := sorry
end
section
abbrev S_met_firstBroken (G : GX) (o : Nat) (ad : Nat → Nat) (g : Nat → Int32) (f : Nat → Int64) (n : Nat) (q : Nat) (u0 : Nat → Int64) (x : Int32) : List va_W := [[(o, wo 5 (mo ad (ad 0) g))], [(ad 0, wL G 208 f)], [(ad 6, wL G 6 u0)]]
abbrev Q_met_firstBroken (G : GX) (o : Nat) (ad : Nat → Nat) (g : Nat → Int32) (f : Nat → Int64) (n : Nat) (q : Nat) (u0 : Nat → Int64) (x : Int32) (A : Nat → Prop) := wQi' G (fun (r : Int32) (z : Nat → Int64) => r = if 0 ≤ x then sFirst (sBroken rootM n f x) q q else nI 0) (fun (z : Nat → Int64) => ([[(o, wo 5 (mo ad (ad 0) (upd g 1 (if 0 ≤ x then nI 0 else nI 1))))], [(ad 0, wL G 208 f)], [(ad 6, wL G 6 z)]] : List va_W)) A
set_option maxHeartbeats 8000000 in
set_option maxRecDepth 100000 in
theorem met_firstBroken (l : Launch) (G : GX) (sz : Nat) (o : Nat) (ad : Nat → Nat) (g : Nat → Int32) (f : Nat → Int64) (n : Nat) (q : Nat) (u0 : Nat → Int64) (x : Int32) (h0 : f 0 = lN n) (h6 : f 6 = lN q) (hn : n ≤ 6) (hq : q ≤ 6) : Met l yX6_firstBroken (ws_ yX6_firstBroken cX6_firstBroken 3 (some .int)) ({ frames := 5, cells := 0, slots := 0, locals := 118 }) (va_Pc [.ref o, .int x] (wPre G (S_met_firstBroken G o ad g f n q u0 x) sz)) (Q_met_firstBroken G o ad g f n q u0 x (wA (S_met_firstBroken G o ad g f n q u0 x) sz)) 0 0 (wA (S_met_firstBroken G o ad g f n q u0 x) sz) := sorry
def gapA (f : Nat → Int64) : Nat → Int64 | 0 => 0 | k + 1 => gapA f k + f (157 + 8 * k + 0)
def gapB (m : Nat) (f : Nat → Int64) (a : Int64) : Nat → Int64 | 0 => a | k + 1 => gapB m f a k + sVal f m k
def gapC (f : Nat → Int64) (b : Int64) : Nat → Int64 | 0 => b | k + 1 => gapC f b k - 1000000 * f (18 + 7 * k)

abbrev S_met_traceGap (G : GX) (o : Nat) (ad : Nat → Nat) (g : Nat → Int32) (f : Nat → Int64) (n : Nat) (m : Nat) (q : Nat) : List va_W := [[(o, wo 5 (mo ad (ad 0) g))], [(ad 0, wL G 208 f)]]
abbrev Q_met_traceGap (G : GX) (o : Nat) (ad : Nat → Nat) (g : Nat → Int32) (f : Nat → Int64) (n : Nat) (m : Nat) (q : Nat) (A : Nat → Prop) := wQl' G (fun (r : Int64) (z : Unit) => r = gapC f (gapB m f (gapA f q) m) n) (fun (z : Unit) => ([[(o, wo 5 (mo ad (ad 0) (upd g 1 (nI 0))))], [(ad 0, wL G 208 f)]] : List va_W)) A
set_option maxHeartbeats 8000000 in
set_option maxRecDepth 100000 in
theorem met_traceGap (l : Launch) (G : GX) (sz : Nat) (o : Nat) (ad : Nat → Nat) (g : Nat → Int32) (f : Nat → Int64) (n : Nat) (m : Nat) (q : Nat) (h0 : f 0 = lN n) (h4 : f 4 = lN m) (h6 : f 6 = lN q) (hn : n ≤ 6) (hm : m ≤ 6) (hq : q ≤ 6) : Met l yX6_traceGap (ws_ yX6_traceGap cX6_traceGap 4 (some .long)) ({ frames := 3, cells := 0, slots := 0, locals := 80 }) (va_Pc [.ref o] (wPre G (S_met_traceGap G o ad g f n m q) sz)) (Q_met_traceGap G o ad g f n m q (wA (S_met_traceGap G o ad g f n m q) sz)) 0 0 (wA (S_met_traceGap G o ad g f n m q) sz) := sorry
theorem cpy_row {h f : Nat → Int64} {r : Nat} : ∀ k, k < 208 → va_cpy h f (208 * r) (208 * 0) 208 k = sAt h (208 * r) k := sorry
abbrev S_met_undo (G : GX) (o : Nat) (ad : Nat → Nat) (g : Nat → Int32) (f : Nat → Int64) (h : Nat → Int64) (c : Nat) : List va_W := [[(o, wo 5 (mo ad (ad 0) g))], [(ad 0, wL G 208 f)], [(ad 4, wL G 2080 h)]]
abbrev Q_met_undo (G : GX) (o : Nat) (ad : Nat → Nat) (g : Nat → Int32) (f : Nat → Int64) (h : Nat → Int64) (c : Nat) (A : Nat → Prop) := wQi' G (fun (r : Int32) (z : Unit) => r = if c = 0 then -1 else nI (c - 1)) (fun (z : Unit) => ([[(o, wo 5 (mo ad (ad 0) (if c = 0 then upd g 1 (nI 0) else upd (upd g 1 (nI 0)) 0 (nI (c - 1)))))], [(ad 0, wL G 208 (if c = 0 then f else sAt h (208 * (c - 1))))], [(ad 4, wL G 2080 h)]] : List va_W)) A
set_option maxHeartbeats 8000000 in
set_option maxRecDepth 100000 in
theorem met_undo (l : Launch) (G : GX) (sz : Nat) (o : Nat) (ad : Nat → Nat) (g : Nat → Int32) (f : Nat → Int64) (h : Nat → Int64) (c : Nat) (hg0 : g 0 = nI c) (hc : c ≤ 10) : Met l yX6_undo (ws_ yX6_undo cX6_undo 1 (some .int)) ({ frames := 1, cells := 0, slots := 0, locals := 24 }) (va_Pc [.ref o] (wPre G (S_met_undo G o ad g f h c) sz)) (Q_met_undo G o ad g f h c (wA (S_met_undo G o ad g f h c) sz)) 0 0 (wA (S_met_undo G o ad g f h c) sz) := sorry
abbrev S_met_saveSnapshot (G : GX) (o : Nat) (ad : Nat → Nat) (g : Nat → Int32) (f : Nat → Int64) (t : Nat → Int64) : List va_W := [[(o, wo 5 (mo ad (ad 0) g))], [(ad 0, wL G 208 f)], [(ad 3, wL G 208 t)]]
abbrev Q_met_saveSnapshot (G : GX) (o : Nat) (ad : Nat → Nat) (g : Nat → Int32) (f : Nat → Int64) (t : Nat → Int64) (A : Nat → Prop) := wQv' G (fun (z : Unit) => True) (fun (z : Unit) => ([[(o, wo 5 (mo ad (ad 0) (upd (upd g 1 (nI 0)) 2 (nI 1))))], [(ad 0, wL G 208 f)], [(ad 3, wL G 208 f)]] : List va_W)) A
set_option maxHeartbeats 8000000 in
set_option maxRecDepth 100000 in
theorem met_saveSnapshot (l : Launch) (G : GX) (sz : Nat) (o : Nat) (ad : Nat → Nat) (g : Nat → Int32) (f : Nat → Int64) (t : Nat → Int64)  : Met l yX6_saveSnapshot (ws_ yX6_saveSnapshot cX6_saveSnapshot 1 none) ({ frames := 1, cells := 0, slots := 0, locals := 24 }) (va_Pc [.ref o] (wPre G (S_met_saveSnapshot G o ad g f t) sz)) (Q_met_saveSnapshot G o ad g f t (wA (S_met_saveSnapshot G o ad g f t) sz)) 0 0 (wA (S_met_saveSnapshot G o ad g f t) sz) := sorry
abbrev S_met_restoreSnapshot (G : GX) (o : Nat) (ad : Nat → Nat) (g : Nat → Int32) (f : Nat → Int64) (t : Nat → Int64) : List va_W := [[(o, wo 5 (mo ad (ad 0) g))], [(ad 0, wL G 208 f)], [(ad 3, wL G 208 t)]]
abbrev Q_met_restoreSnapshot (G : GX) (o : Nat) (ad : Nat → Nat) (g : Nat → Int32) (f : Nat → Int64) (t : Nat → Int64) (A : Nat → Prop) := wQi' G (fun (r : Int32) (z : Unit) => r = if g 2 = 0 then nI 0 else nI 1) (fun (z : Unit) => ([[(o, wo 5 (mo ad (ad 0) (if g 2 = 0 then upd g 1 (nI 0) else upd (upd g 1 (nI 0)) 0 (nI 0))))], [(ad 0, wL G 208 (if g 2 = 0 then f else t))], [(ad 3, wL G 208 t)]] : List va_W)) A
set_option maxHeartbeats 8000000 in
set_option maxRecDepth 100000 in
theorem met_restoreSnapshot (l : Launch) (G : GX) (sz : Nat) (o : Nat) (ad : Nat → Nat) (g : Nat → Int32) (f : Nat → Int64) (t : Nat → Int64)  : Met l yX6_restoreSnapshot (ws_ yX6_restoreSnapshot cX6_restoreSnapshot 1 (some .boolean)) ({ frames := 1, cells := 0, slots := 0, locals := 24 }) (va_Pc [.ref o] (wPre G (S_met_restoreSnapshot G o ad g f t) sz)) (Q_met_restoreSnapshot G o ad g f t (wA (S_met_restoreSnapshot G o ad g f t) sz)) 0 0 (wA (S_met_restoreSnapshot G o ad g f t) sz) := sorry
end
section
theorem ss_if7 (y : Int32) {α : Type} (u v : α) : (if (0 : Int64) ≤ y.toInt64 ∧ y.toInt64 ≤ 6 then u else v) = (if 0 ≤ y ∧ y < nI 7 then u else v) := sorry
theorem sHin_q {R : Int64 → Int64} {n m q : Nat} {f : Nat → Int64} {k : Nat} (h : sHin R n m q f k = nI 0) : ¬ q = n := sorry
theorem fDrop_6 {q k : Nat} {f : Nat → Int64} (h : f 6 = lN q) (hq : 1 ≤ q) : fDrop q f k 6 = lN (q - 1) := sorry
theorem fDrop_at {q k j : Nat} {f : Nat → Int64} (h : j < 157) (h6 : j ≠ 6) : fDrop q f k j = f j := sorry
abbrev S_met_lock (G : GX) (o : Nat) (ad : Nat → Nat) (g : Nat → Int32) (f : Nat → Int64) (n : Nat) (m : Nat) (q : Nat) (h : Nat → Int64) (c : Nat) (u0 : Nat → Int64) (t0 : Nat → Int64) (x : Int32) : List va_W := [[(o, wo 5 (mo ad (ad 0) g))], [(ad 0, wL G 208 f)], [(ad 4, wL G 2080 h)], [(ad 8, wL G 6 u0)], [(ad 7, wL G 6 t0)]]
abbrev Q_met_lock (G : GX) (o : Nat) (ad : Nat → Nat) (g : Nat → Int32) (f : Nat → Int64) (n : Nat) (m : Nat) (q : Nat) (h : Nat → Int64) (c : Nat) (u0 : Nat → Int64) (t0 : Nat → Int64) (x : Int32) (A : Nat → Prop) := wQi' G (fun (r : Int32) (z : (Nat → Int64) × (Nat → Int64)) => r = if (0 ≤ x ∧ x < nI m) ∧ sHin rootM n m q f x.toNatClampNeg = nI 0 then nI q else if 0 ≤ x ∧ x < nI m then sHin rootM n m q f x.toNatClampNeg else nI 0) (fun (z : (Nat → Int64) × (Nat → Int64)) => ([[(o, wo 5 (mo ad (ad 0) (if (0 ≤ x ∧ x < nI m) ∧ sHin rootM n m q f x.toNatClampNeg = nI 0 then upd (upd g 1 (nI 0)) 0 (nI (cRec c + 1)) else if 0 ≤ x ∧ x < nI m then upd g 1 (nI 0) else upd g 1 (nI 1))))], [(ad 0, wL G 208 (if (0 ≤ x ∧ x < nI m) ∧ sHin rootM n m q f x.toNatClampNeg = nI 0 then fLock rootM n m q f (vLocks n f q (vRitz rootM n f m x.toNatClampNeg)) x.toNatClampNeg else f))], [(ad 4, wL G 2080 (if (0 ≤ x ∧ x < nI m) ∧ sHin rootM n m q f x.toNatClampNeg = nI 0 then hRec f h c else h))], [(ad 8, wL G 6 z.1)], [(ad 7, wL G 6 z.2)]] : List va_W)) A
set_option maxHeartbeats 8000000 in
set_option maxRecDepth 100000 in
theorem met_lock (l : Launch) (G : GX) (sz : Nat) (o : Nat) (ad : Nat → Nat) (g : Nat → Int32) (f : Nat → Int64) (n : Nat) (m : Nat) (q : Nat) (h : Nat → Int64) (c : Nat) (u0 : Nat → Int64) (t0 : Nat → Int64) (x : Int32) (h0 : f 0 = lN n) (h4 : f 4 = lN m) (h6 : f 6 = lN q) (hn : n ≤ 6) (hm : m ≤ 6) (hqn : q ≤ n) (hbt : ∀ j, j + 1 < m → ¬ f (102 + j) = 0) (hg0 : g 0 = nI c) (hc : c ≤ 10) : Met l yX6_lock (ws_ yX6_lock cX6_lock 3 (some .int)) ({ frames := 5, cells := 0, slots := 0, locals := 134 }) (va_Pc [.ref o, .int x] (wPre G (S_met_lock G o ad g f n m q h c u0 t0 x) sz)) (Q_met_lock G o ad g f n m q h c u0 t0 x (wA (S_met_lock G o ad g f n m q h c u0 t0 x) sz)) 0 0 (wA (S_met_lock G o ad g f n m q h c u0 t0 x) sz) := sorry
abbrev S_met_unlock (G : GX) (o : Nat) (ad : Nat → Nat) (g : Nat → Int32) (f : Nat → Int64) (q : Nat) (h : Nat → Int64) (c : Nat) (x : Int32) : List va_W := [[(o, wo 5 (mo ad (ad 0) g))], [(ad 0, wL G 208 f)], [(ad 4, wL G 2080 h)]]
abbrev Q_met_unlock (G : GX) (o : Nat) (ad : Nat → Nat) (g : Nat → Int32) (f : Nat → Int64) (q : Nat) (h : Nat → Int64) (c : Nat) (x : Int32) (A : Nat → Prop) := wQi' G (fun (r : Int32) (z : Unit) => r = if 0 ≤ x ∧ x < nI q then nI (q - 1) else nI 0) (fun (z : Unit) => ([[(o, wo 5 (mo ad (ad 0) (if 0 ≤ x ∧ x < nI q then upd (upd g 1 (nI 0)) 0 (nI (cRec c + 1)) else upd g 1 (nI 1))))], [(ad 0, wL G 208 (if 0 ≤ x ∧ x < nI q then fDrop q f x.toNatClampNeg else f))], [(ad 4, wL G 2080 (if 0 ≤ x ∧ x < nI q then hRec f h c else h))]] : List va_W)) A
set_option maxHeartbeats 8000000 in
set_option maxRecDepth 100000 in
theorem met_unlock (l : Launch) (G : GX) (sz : Nat) (o : Nat) (ad : Nat → Nat) (g : Nat → Int32) (f : Nat → Int64) (q : Nat) (h : Nat → Int64) (c : Nat) (x : Int32) (h6 : f 6 = lN q) (hq : q ≤ 6) (hg0 : g 0 = nI c) (hc : c ≤ 10) : Met l yX6_unlock (ws_ yX6_unlock cX6_unlock 2 (some .int)) ({ frames := 2, cells := 0, slots := 0, locals := 46 }) (va_Pc [.ref o, .int x] (wPre G (S_met_unlock G o ad g f q h c x) sz)) (Q_met_unlock G o ad g f q h c x (wA (S_met_unlock G o ad g f q h c x) sz)) 0 0 (wA (S_met_unlock G o ad g f q h c x) sz) := sorry
abbrev S_met_step (G : GX) (o : Nat) (ad : Nat → Nat) (g : Nat → Int32) (f : Nat → Int64) (n : Nat) (m : Nat) (q : Nat) (h : Nat → Int64) (c : Nat) (u0 : Nat → Int64) (x : Int32) : List va_W := [[(o, wo 5 (mo ad (ad 0) g))], [(ad 0, wL G 208 f)], [(ad 4, wL G 2080 h)], [(ad 5, wL G 6 u0)]]
abbrev Q_met_step (G : GX) (o : Nat) (ad : Nat → Nat) (g : Nat → Int32) (f : Nat → Int64) (n : Nat) (m : Nat) (q : Nat) (h : Nat → Int64) (c : Nat) (u0 : Nat → Int64) (x : Int32) (A : Nat → Prop) := wQi' G (fun (r : Int32) (z : Nat → Int64) => r = if 0 ≤ x ∧ x < nI 7 then nI (nSteps rootM n q x.toNatClampNeg f m) else nI 0) (fun (z : Nat → Int64) => ([[(o, wo 5 (mo ad (ad 0) (if 0 ≤ x ∧ x < nI 7 then upd (upd g 1 (nI 0)) 0 (nI (cRec c + 1)) else upd g 1 (nI 1))))], [(ad 0, wL G 208 (if 0 ≤ x ∧ x < nI 7 then fSteps rootM n q x.toNatClampNeg f m else f))], [(ad 4, wL G 2080 (if 0 ≤ x ∧ x < nI 7 then hRec f h c else h))], [(ad 5, wL G 6 z)]] : List va_W)) A
set_option maxHeartbeats 8000000 in
set_option maxRecDepth 100000 in
theorem met_step (l : Launch) (G : GX) (sz : Nat) (o : Nat) (ad : Nat → Nat) (g : Nat → Int32) (f : Nat → Int64) (n : Nat) (m : Nat) (q : Nat) (h : Nat → Int64) (c : Nat) (u0 : Nat → Int64) (x : Int32) (h0 : f 0 = lN n) (h4 : f 4 = lN m) (h6 : f 6 = lN q) (hn : n ≤ 6) (hq : q ≤ 6) (hmn : m ≤ n) (hg0 : g 0 = nI c) (hc : c ≤ 10) : Met l yX6_step (ws_ yX6_step cX6_step 2 (some .int)) ({ frames := 6, cells := 0, slots := 0, locals := 144 }) (va_Pc [.ref o, .int x] (wPre G (S_met_step G o ad g f n m q h c u0 x) sz)) (Q_met_step G o ad g f n m q h c u0 x (wA (S_met_step G o ad g f n m q h c u0 x) sz)) 0 0 (wA (S_met_step G o ad g f n m q h c u0 x) sz) := sorry
abbrev S_met_change (G : GX) (o : Nat) (ad : Nat → Nat) (g : Nat → Int32) (f : Nat → Int64) (h : Nat → Int64) (c : Nat) (k : Nat) (v : Int32) (lo : Nat) (hi : Nat) : List va_W := [[(o, wo 5 (mo ad (ad 0) g))], [(ad 0, wL G 208 f)], [(ad 4, wL G 2080 h)]]
abbrev Q_met_change (G : GX) (o : Nat) (ad : Nat → Nat) (g : Nat → Int32) (f : Nat → Int64) (h : Nat → Int64) (c : Nat) (k : Nat) (v : Int32) (lo : Nat) (hi : Nat) (A : Nat → Prop) := wQi' G (fun (r : Int32) (z : Unit) => r = if (lN lo ≤ v.toInt64 ∧ v.toInt64 ≤ lN hi) then (f k).toInt32 else nI 0) (fun (z : Unit) => ([[(o, wo 5 (mo ad (ad 0) (if (lN lo ≤ v.toInt64 ∧ v.toInt64 ≤ lN hi) then upd (upd g 1 (nI 0)) 0 (nI (cRec c + 1)) else upd g 1 (nI 1))))], [(ad 0, wL G 208 (if (lN lo ≤ v.toInt64 ∧ v.toInt64 ≤ lN hi) then vp_updL f k v.toInt64 else f))], [(ad 4, wL G 2080 (if (lN lo ≤ v.toInt64 ∧ v.toInt64 ≤ lN hi) then hRec f h c else h))]] : List va_W)) A
set_option maxHeartbeats 8000000 in
set_option maxRecDepth 100000 in
theorem met_change (l : Launch) (G : GX) (sz : Nat) (o : Nat) (ad : Nat → Nat) (g : Nat → Int32) (f : Nat → Int64) (h : Nat → Int64) (c : Nat) (k : Nat) (v : Int32) (lo : Nat) (hi : Nat) (hk : k ≤ 3) (hlo : lo ≤ 1000000) (hhi : hi ≤ 1000000) (hg0 : g 0 = nI c) (hc : c ≤ 10) : Met l yX6_change (ws_ yX6_change cX6_change 6 (some .int)) ({ frames := 2, cells := 0, slots := 0, locals := 45 }) (va_Pc [.ref o, .int (nI k), .int v, .int (nI lo), .int (nI hi)] (wPre G (S_met_change G o ad g f h c k v lo hi) sz)) (Q_met_change G o ad g f h c k v lo hi (wA (S_met_change G o ad g f h c k v lo hi) sz)) 0 0 (wA (S_met_change G o ad g f h c k v lo hi) sz) := sorry
abbrev S_met_setMode (G : GX) (o : Nat) (ad : Nat → Nat) (g : Nat → Int32) (f : Nat → Int64) (h : Nat → Int64) (c : Nat) (v : Int32) : List va_W := [[(o, wo 5 (mo ad (ad 0) g))], [(ad 0, wL G 208 f)], [(ad 4, wL G 2080 h)]]
abbrev Q_met_setMode (G : GX) (o : Nat) (ad : Nat → Nat) (g : Nat → Int32) (f : Nat → Int64) (h : Nat → Int64) (c : Nat) (v : Int32) (A : Nat → Prop) := wQi' G (fun (r : Int32) (z : Unit) => r = if (lN 0 ≤ v.toInt64 ∧ v.toInt64 ≤ lN 2) then (f 1).toInt32 else nI 0) (fun (z : Unit) => ([[(o, wo 5 (mo ad (ad 0) (if (lN 0 ≤ v.toInt64 ∧ v.toInt64 ≤ lN 2) then upd (upd g 1 (nI 0)) 0 (nI (cRec c + 1)) else upd g 1 (nI 1))))], [(ad 0, wL G 208 (if (lN 0 ≤ v.toInt64 ∧ v.toInt64 ≤ lN 2) then vp_updL f 1 v.toInt64 else f))], [(ad 4, wL G 2080 (if (lN 0 ≤ v.toInt64 ∧ v.toInt64 ≤ lN 2) then hRec f h c else h))]] : List va_W)) A
set_option maxHeartbeats 8000000 in
set_option maxRecDepth 100000 in
theorem met_setMode (l : Launch) (G : GX) (sz : Nat) (o : Nat) (ad : Nat → Nat) (g : Nat → Int32) (f : Nat → Int64) (h : Nat → Int64) (c : Nat) (v : Int32) (hg0 : g 0 = nI c) (hc : c ≤ 10) : Met l yX6_setMode (ws_ yX6_setMode cX6_setMode 2 (some .int)) ({ frames := 3, cells := 0, slots := 0, locals := 70 }) (va_Pc [.ref o, .int v] (wPre G (S_met_setMode G o ad g f h c v) sz)) (Q_met_setMode G o ad g f h c v (wA (S_met_setMode G o ad g f h c v) sz)) 0 0 (wA (S_met_setMode G o ad g f h c v) sz) := sorry
abbrev S_met_setThreshold (G : GX) (o : Nat) (ad : Nat → Nat) (g : Nat → Int32) (f : Nat → Int64) (h : Nat → Int64) (c : Nat) (v : Int32) : List va_W := [[(o, wo 5 (mo ad (ad 0) g))], [(ad 0, wL G 208 f)], [(ad 4, wL G 2080 h)]]
abbrev Q_met_setThreshold (G : GX) (o : Nat) (ad : Nat → Nat) (g : Nat → Int32) (f : Nat → Int64) (h : Nat → Int64) (c : Nat) (v : Int32) (A : Nat → Prop) := wQi' G (fun (r : Int32) (z : Unit) => r = if (lN 1 ≤ v.toInt64 ∧ v.toInt64 ≤ lN 1000000) then (f 2).toInt32 else nI 0) (fun (z : Unit) => ([[(o, wo 5 (mo ad (ad 0) (if (lN 1 ≤ v.toInt64 ∧ v.toInt64 ≤ lN 1000000) then upd (upd g 1 (nI 0)) 0 (nI (cRec c + 1)) else upd g 1 (nI 1))))], [(ad 0, wL G 208 (if (lN 1 ≤ v.toInt64 ∧ v.toInt64 ≤ lN 1000000) then vp_updL f 2 v.toInt64 else f))], [(ad 4, wL G 2080 (if (lN 1 ≤ v.toInt64 ∧ v.toInt64 ≤ lN 1000000) then hRec f h c else h))]] : List va_W)) A
set_option maxHeartbeats 8000000 in
set_option maxRecDepth 100000 in
theorem met_setThreshold (l : Launch) (G : GX) (sz : Nat) (o : Nat) (ad : Nat → Nat) (g : Nat → Int32) (f : Nat → Int64) (h : Nat → Int64) (c : Nat) (v : Int32) (hg0 : g 0 = nI c) (hc : c ≤ 10) : Met l yX6_setThreshold (ws_ yX6_setThreshold cX6_setThreshold 2 (some .int)) ({ frames := 3, cells := 0, slots := 0, locals := 70 }) (va_Pc [.ref o, .int v] (wPre G (S_met_setThreshold G o ad g f h c v) sz)) (Q_met_setThreshold G o ad g f h c v (wA (S_met_setThreshold G o ad g f h c v) sz)) 0 0 (wA (S_met_setThreshold G o ad g f h c v) sz) := sorry
abbrev S_met_setTolerance (G : GX) (o : Nat) (ad : Nat → Nat) (g : Nat → Int32) (f : Nat → Int64) (h : Nat → Int64) (c : Nat) (v : Int32) : List va_W := [[(o, wo 5 (mo ad (ad 0) g))], [(ad 0, wL G 208 f)], [(ad 4, wL G 2080 h)]]
abbrev Q_met_setTolerance (G : GX) (o : Nat) (ad : Nat → Nat) (g : Nat → Int32) (f : Nat → Int64) (h : Nat → Int64) (c : Nat) (v : Int32) (A : Nat → Prop) := wQi' G (fun (r : Int32) (z : Unit) => r = if (lN 1 ≤ v.toInt64 ∧ v.toInt64 ≤ lN 1000000) then (f 3).toInt32 else nI 0) (fun (z : Unit) => ([[(o, wo 5 (mo ad (ad 0) (if (lN 1 ≤ v.toInt64 ∧ v.toInt64 ≤ lN 1000000) then upd (upd g 1 (nI 0)) 0 (nI (cRec c + 1)) else upd g 1 (nI 1))))], [(ad 0, wL G 208 (if (lN 1 ≤ v.toInt64 ∧ v.toInt64 ≤ lN 1000000) then vp_updL f 3 v.toInt64 else f))], [(ad 4, wL G 2080 (if (lN 1 ≤ v.toInt64 ∧ v.toInt64 ≤ lN 1000000) then hRec f h c else h))]] : List va_W)) A
set_option maxHeartbeats 8000000 in
set_option maxRecDepth 100000 in
theorem met_setTolerance (l : Launch) (G : GX) (sz : Nat) (o : Nat) (ad : Nat → Nat) (g : Nat → Int32) (f : Nat → Int64) (h : Nat → Int64) (c : Nat) (v : Int32) (hg0 : g 0 = nI c) (hc : c ≤ 10) : Met l yX6_setTolerance (ws_ yX6_setTolerance cX6_setTolerance 2 (some .int)) ({ frames := 3, cells := 0, slots := 0, locals := 70 }) (va_Pc [.ref o, .int v] (wPre G (S_met_setTolerance G o ad g f h c v) sz)) (Q_met_setTolerance G o ad g f h c v (wA (S_met_setTolerance G o ad g f h c v) sz)) 0 0 (wA (S_met_setTolerance G o ad g f h c v) sz) := sorry
end
section
def sDr (R : Int64 → Int64) (n : Nat) (v : Int32) : Nat → (Nat → Int64) × Nat → (Nat → Int64) × Nat
  | 0, s => s
  | k + 1, s => if sBroken R n s.1 v k = true then sDr R n v k (fDrop s.2 s.1 k, s.2 - 1) else sDr R n v k s
theorem m1_neg {k : Nat} (hk : k < 2 ^ 31) (h : nI k - nI 1 < 0) : k = 0 := sorry
theorem m1_pos {k : Nat} (h : ¬ nI k - nI 1 < 0) : 1 ≤ k := sorry
theorem m1_add (x : Int32) : x + Int32.ofInt (-1) = x - nI 1 := sorry
/-- an entry set, both ways -/
def fSet (f : Nat → Int64) (i j : Nat) (v : Int64) : Nat → Int64 := vp_updL (vp_updL f (18 + 6 * i + j) v) (18 + 6 * j + i) v
theorem fSet_at {f : Nat → Int64} {i j k : Nat} {v : Int64} (h : k < 18 ∨ 54 ≤ k) (hi : i < 6) (hj : j < 6) : fSet f i j v k = f k := sorry
abbrev S_met_drop (G : GX) (o : Nat) (ad : Nat → Nat) (g : Nat → Int32) (f : Nat → Int64) (n : Nat) (q : Nat) (h : Nat → Int64) (c : Nat) (u0 : Nat → Int64) (v : Int32) : List va_W := [[(o, wo 5 (mo ad (ad 0) g))], [(ad 0, wL G 208 f)], [(ad 4, wL G 2080 h)], [(ad 6, wL G 6 u0)]]
abbrev Q_met_drop (G : GX) (o : Nat) (ad : Nat → Nat) (g : Nat → Int32) (f : Nat → Int64) (n : Nat) (q : Nat) (h : Nat → Int64) (c : Nat) (u0 : Nat → Int64) (v : Int32) (A : Nat → Prop) := wQi' G (fun (r : Int32) (z : Nat → Int64) => r = if 0 ≤ v then nI (q - (sDr rootM n v q (f, q)).2) else nI 0) (fun (z : Nat → Int64) => ([[(o, wo 5 (mo ad (ad 0) (if 0 ≤ v then upd (upd g 1 (nI 0)) 0 (nI (cRec c + 1)) else upd g 1 (nI 1))))], [(ad 0, wL G 208 (if 0 ≤ v then (sDr rootM n v q (f, q)).1 else f))], [(ad 4, wL G 2080 (if 0 ≤ v then hRec f h c else h))], [(ad 6, wL G 6 z)]] : List va_W)) A
set_option maxHeartbeats 8000000 in
set_option maxRecDepth 100000 in
theorem met_drop (l : Launch) (G : GX) (sz : Nat) (o : Nat) (ad : Nat → Nat) (g : Nat → Int32) (f : Nat → Int64) (n : Nat) (q : Nat) (h : Nat → Int64) (c : Nat) (u0 : Nat → Int64) (v : Int32) (h0 : f 0 = lN n) (h6 : f 6 = lN q) (hn : n ≤ 6) (hq : q ≤ 6) (hg0 : g 0 = nI c) (hc : c ≤ 10) : Met l yX6_drop (ws_ yX6_drop cX6_drop 4 (some .int)) ({ frames := 5, cells := 0, slots := 0, locals := 118 }) (va_Pc [.ref o, .int v] (wPre G (S_met_drop G o ad g f n q h c u0 v) sz)) (Q_met_drop G o ad g f n q h c u0 v (wA (S_met_drop G o ad g f n q h c u0 v) sz)) 0 0 (wA (S_met_drop G o ad g f n q h c u0 v) sz) := sorry
abbrev S_met_setEntry (G : GX) (o : Nat) (ad : Nat → Nat) (g : Nat → Int32) (f : Nat → Int64) (n : Nat) (q : Nat) (h : Nat → Int64) (c : Nat) (a0 : Nat → Int64) (u0 : Nat → Int64) (x : Int32) (y : Int32) (v : Int32) : List va_W := [[(o, wo 5 (mo ad (ad 0) g))], [(ad 0, wL G 208 f)], [(ad 4, wL G 2080 h)], [(ad 2, wL G 208 a0)], [(ad 5, wL G 6 u0)]]
abbrev Q_met_setEntry (G : GX) (o : Nat) (ad : Nat → Nat) (g : Nat → Int32) (f : Nat → Int64) (n : Nat) (q : Nat) (h : Nat → Int64) (c : Nat) (a0 : Nat → Int64) (u0 : Nat → Int64) (x : Int32) (y : Int32) (v : Int32) (A : Nat → Prop) := wQi' G (fun (r : Int32) (z : (Nat → Int64) × (Nat → Int64)) => r = if (0 ≤ x ∧ x < nI n) ∧ (0 ≤ y ∧ y < nI n) then (if (-99 ≤ v.toInt64 ∧ v.toInt64 ≤ 99) then (if okBeg rootM n q (fSet f x.toNatClampNeg y.toNatClampNeg v.toInt64) (vStart (fSet f x.toNatClampNeg y.toNatClampNeg v.toInt64)) then (f (18 + 6 * x.toNatClampNeg + y.toNatClampNeg)).toInt32 else -1000) else nI 0) else nI 0) (fun (z : (Nat → Int64) × (Nat → Int64)) => ([[(o, wo 5 (mo ad (ad 0) (if (0 ≤ x ∧ x < nI n) ∧ (0 ≤ y ∧ y < nI n) then (if (-99 ≤ v.toInt64 ∧ v.toInt64 ≤ 99) then (if okBeg rootM n q (fSet f x.toNatClampNeg y.toNatClampNeg v.toInt64) (vStart (fSet f x.toNatClampNeg y.toNatClampNeg v.toInt64)) then upd (upd g 1 (nI 0)) 0 (nI (cRec c + 1)) else upd g 1 (nI 0)) else upd g 1 (nI 2)) else upd g 1 (nI 1))))], [(ad 0, wL G 208 (if ((0 ≤ x ∧ x < nI n) ∧ (0 ≤ y ∧ y < nI n)) ∧ (-99 ≤ v.toInt64 ∧ v.toInt64 ≤ 99) ∧ okBeg rootM n q (fSet f x.toNatClampNeg y.toNatClampNeg v.toInt64) (vStart (fSet f x.toNatClampNeg y.toNatClampNeg v.toInt64)) then fBeg rootM n q (fSet f x.toNatClampNeg y.toNatClampNeg v.toInt64) (vStart (fSet f x.toNatClampNeg y.toNatClampNeg v.toInt64)) else f))], [(ad 4, wL G 2080 (if ((0 ≤ x ∧ x < nI n) ∧ (0 ≤ y ∧ y < nI n)) ∧ (-99 ≤ v.toInt64 ∧ v.toInt64 ≤ 99) ∧ okBeg rootM n q (fSet f x.toNatClampNeg y.toNatClampNeg v.toInt64) (vStart (fSet f x.toNatClampNeg y.toNatClampNeg v.toInt64)) then hRec f h c else h))], [(ad 2, wL G 208 z.1)], [(ad 5, wL G 6 z.2)]] : List va_W)) A
set_option maxHeartbeats 8000000 in
set_option maxRecDepth 100000 in
theorem met_setEntry (l : Launch) (G : GX) (sz : Nat) (o : Nat) (ad : Nat → Nat) (g : Nat → Int32) (f : Nat → Int64) (n : Nat) (q : Nat) (h : Nat → Int64) (c : Nat) (a0 : Nat → Int64) (u0 : Nat → Int64) (x : Int32) (y : Int32) (v : Int32) (h0 : f 0 = lN n) (h6 : f 6 = lN q) (hn : n ≤ 6) (hq : q ≤ 6) (hg0 : g 0 = nI c) (hc : c ≤ 10) : Met l yX6_setEntry (ws_ yX6_setEntry cX6_setEntry 6 (some .int)) ({ frames := 6, cells := 0, slots := 0, locals := 138 }) (va_Pc [.ref o, .int x, .int y, .int v] (wPre G (S_met_setEntry G o ad g f n q h c a0 u0 x y v) sz)) (Q_met_setEntry G o ad g f n q h c a0 u0 x y v (wA (S_met_setEntry G o ad g f n q h c a0 u0 x y v) sz)) 0 0 (wA (S_met_setEntry G o ad g f n q h c a0 u0 x y v) sz) := sorry
end
section
/-- what a restart of kind kd begins with: how many, the last bound, the vector -/
def sRest (R : Int64 → Int64) (n m : Nat) (f : Nat → Int64) (kd : Nat) : Nat → Nat × Int64 × (Nat → Int64)
  | 0 => (0, 0, fun _ => 0)
  | k + 1 => if sBnd R f m k ≤ f 3 ∨ (kd = 1 ∧ (sRest R n m f kd k).1 = 1 ∧ (sRest R n m f kd k).2.1 ≤ sBnd R f m k) then sRest R n m f kd k
    else (if kd = 1 then 1 else (sRest R n m f kd k).1 + 1, sBnd R f m k, fun j => if kd = 1 then vRitz R n f m k j else (sRest R n m f kd k).2.2 j + vRitz R n f m k j)
theorem sRest_le {R : Int64 → Int64} {n m : Nat} {f : Nat → Int64} {kd : Nat} (k : Nat) : (sRest R n m f kd k).1 ≤ k := sorry
abbrev S_met_layRest (G : GX) (o : Nat) (ad : Nat → Nat) (lb : Nat) (g : Nat → Int32) (f : Nat → Int64) (n : Nat) (m : Nat) (kd : Nat) (u0 : Nat → Int64) (t0 : Nat → Int64) (s0 : Nat → Int64) : List va_W := [[(o, wo 5 (mo ad lb g))], [(lb, wL G 208 f)], [(ad 8, wL G 6 u0)], [(ad 7, wL G 6 t0)], [(ad 9, wL G 6 s0)]]
abbrev Q_met_layRest (G : GX) (o : Nat) (ad : Nat → Nat) (lb : Nat) (g : Nat → Int32) (f : Nat → Int64) (n : Nat) (m : Nat) (kd : Nat) (u0 : Nat → Int64) (t0 : Nat → Int64) (s0 : Nat → Int64) (A : Nat → Prop) := wQi' G (fun (r : Int32) (z : (Nat → Int64) × (Nat → Int64)) => r = nI (sRest rootM n m f kd m).1) (fun (z : (Nat → Int64) × (Nat → Int64)) => ([[(o, wo 5 (mo ad lb g))], [(lb, wL G 208 f)], [(ad 8, wL G 6 z.1)], [(ad 7, wL G 6 z.2)], [(ad 9, wL G 6 (sMap n (sRest rootM n m f kd m).2.2 s0))]] : List va_W)) A
set_option maxHeartbeats 8000000 in
set_option maxRecDepth 100000 in
theorem met_layRest (l : Launch) (G : GX) (sz : Nat) (o : Nat) (ad : Nat → Nat) (lb : Nat) (g : Nat → Int32) (f : Nat → Int64) (n : Nat) (m : Nat) (kd : Nat) (u0 : Nat → Int64) (t0 : Nat → Int64) (s0 : Nat → Int64) (h0 : f 0 = lN n) (h4 : f 4 = lN m) (hn : n ≤ 6) (hm : m ≤ 6) (hbt : ∀ j, j + 1 < m → ¬ f (102 + j) = 0) (hkd : kd ≤ 2) : Met l yX6_layRest (ws_ yX6_layRest cX6_layRest 9 (some .int)) ({ frames := 4, cells := 0, slots := 0, locals := 113 }) (va_Pc [.ref o, .int (nI kd)] (wPre G (S_met_layRest G o ad lb g f n m kd u0 t0 s0) sz)) (Q_met_layRest G o ad lb g f n m kd u0 t0 s0 (wA (S_met_layRest G o ad lb g f n m kd u0 t0 s0) sz)) 0 0 (wA (S_met_layRest G o ad lb g f n m kd u0 t0 s0) sz) := sorry
end
section
def rRs (R : Int64 → Int64) (n m q : Nat) (f : Nat → Int64) (kd : Nat) : Int32 :=
  if kd = 0 then (if okBeg R n q f (vStart f) then nI 0 else -4)
  else if (sRest R n m f kd m).1 = 0 then -5
  else if okBeg R n q f (sRest R n m f kd m).2.2 then nI (sRest R n m f kd m).1 else -4
def fRs (R : Int64 → Int64) (n m q : Nat) (f : Nat → Int64) (kd : Nat) : Nat → Int64 :=
  if kd = 0 then fBeg R n q f (vStart f) else if (sRest R n m f kd m).1 = 0 then f else fBeg R n q f (sRest R n m f kd m).2.2
theorem fBeg_no {R : Int64 → Int64} {n q : Nat} {f u : Nat → Int64} (h : ¬ okBeg R n q f u) : fBeg R n q f u = f := sorry
theorem fBeg_at {R : Int64 → Int64} {n q j : Nat} {f u : Nat → Int64} (hn : n ≤ 6) (h : j < 54 ∨ 60 ≤ j) (h4 : j ≠ 4) (h5 : j ≠ 5) (h10 : j ≠ 10) : fBeg R n q f u j = f j := sorry
theorem fBeg_4 {R : Int64 → Int64} {n q : Nat} {f u : Nat → Int64} (h : okBeg R n q f u) : fBeg R n q f u 4 = 0 := sorry
theorem fBeg_5 {R : Int64 → Int64} {n q : Nat} {f u : Nat → Int64} (h : okBeg R n q f u) : fBeg R n q f u 5 = 0 := sorry
theorem rRs_neg {R : Int64 → Int64} {n m q kd : Nat} {f : Nat → Int64} (hm : m ≤ 6) (h : rRs R n m q f kd < 0) : fRs R n m q f kd = f := sorry
theorem rRs_pos {R : Int64 → Int64} {n m q kd : Nat} {f : Nat → Int64} (h : ¬ rRs R n m q f kd < 0) : fRs R n m q f kd 4 = 0 ∧ fRs R n m q f kd 5 = 0 := sorry
theorem fRs_at {R : Int64 → Int64} {n m q kd j : Nat} {f : Nat → Int64} (hn : n ≤ 6) (h : j < 54 ∨ 60 ≤ j) (h4 : j ≠ 4) (h5 : j ≠ 5) (h10 : j ≠ 10) : fRs R n m q f kd j = f j := sorry
/-- locking whatever can be locked, from the row and the number s: after the first k -/
def sLA (R : Int64 → Int64) (n m : Nat) (s : (Nat → Int64) × Nat) : Nat → (Nat → Int64) × Nat
  | 0 => s
  | k + 1 => if sHin R n m (sLA R n m s k).2 (sLA R n m s k).1 k = nI 0 then (fLock R n m (sLA R n m s k).2 (sLA R n m s k).1 (vLocks n (sLA R n m s k).1 (sLA R n m s k).2 (vRitz R n (sLA R n m s k).1 m k)) k, (sLA R n m s k).2 + 1) else sLA R n m s k
theorem fLock_at {R : Int64 → Int64} {n m q j : Nat} {f v : Nat → Int64} {k : Nat} (hj : j < 157) (h6 : j ≠ 6) : fLock R n m q f v k j = f j := sorry
theorem fLock_6 {R : Int64 → Int64} {n m q : Nat} {f v : Nat → Int64} {k : Nat} : fLock R n m q f v k 6 = f 6 + 1 := sorry
abbrev S_met_restartNow (G : GX) (o : Nat) (ad : Nat → Nat) (lb : Nat) (g : Nat → Int32) (f : Nat → Int64) (n : Nat) (m : Nat) (q : Nat) (kd : Nat) (u0 : Nat → Int64) (t0 : Nat → Int64) (s0 : Nat → Int64) (w0 : Nat → Int64) : List va_W := [[(o, wo 5 (mo ad lb g))], [(lb, wL G 208 f)], [(ad 8, wL G 6 u0)], [(ad 7, wL G 6 t0)], [(ad 9, wL G 6 s0)], [(ad 5, wL G 6 w0)]]
abbrev Q_met_restartNow (G : GX) (o : Nat) (ad : Nat → Nat) (lb : Nat) (g : Nat → Int32) (f : Nat → Int64) (n : Nat) (m : Nat) (q : Nat) (kd : Nat) (u0 : Nat → Int64) (t0 : Nat → Int64) (s0 : Nat → Int64) (w0 : Nat → Int64) (A : Nat → Prop) := wQi' G (fun (r : Int32) (z : (Nat → Int64) × (Nat → Int64) × (Nat → Int64) × (Nat → Int64)) => r = rRs rootM n m q f kd) (fun (z : (Nat → Int64) × (Nat → Int64) × (Nat → Int64) × (Nat → Int64)) => ([[(o, wo 5 (mo ad lb g))], [(lb, wL G 208 (fRs rootM n m q f kd))], [(ad 8, wL G 6 z.1)], [(ad 7, wL G 6 z.2.1)], [(ad 9, wL G 6 z.2.2.1)], [(ad 5, wL G 6 z.2.2.2)]] : List va_W)) A
set_option maxHeartbeats 8000000 in
set_option maxRecDepth 100000 in
theorem met_restartNow (l : Launch) (G : GX) (sz : Nat) (o : Nat) (ad : Nat → Nat) (lb : Nat) (g : Nat → Int32) (f : Nat → Int64) (n : Nat) (m : Nat) (q : Nat) (kd : Nat) (u0 : Nat → Int64) (t0 : Nat → Int64) (s0 : Nat → Int64) (w0 : Nat → Int64) (h0 : f 0 = lN n) (h4 : f 4 = lN m) (h6 : f 6 = lN q) (hn : n ≤ 6) (hm : m ≤ 6) (hq : q ≤ 6) (hbt : ∀ j, j + 1 < m → ¬ f (102 + j) = 0) (hkd : kd ≤ 2) : Met l yX6_restartNow (ws_ yX6_restartNow cX6_restartNow 4 (some .int)) ({ frames := 6, cells := 0, slots := 0, locals := 141 }) (va_Pc [.ref o, .int (nI kd)] (wPre G (S_met_restartNow G o ad lb g f n m q kd u0 t0 s0 w0) sz)) (Q_met_restartNow G o ad lb g f n m q kd u0 t0 s0 w0 (wA (S_met_restartNow G o ad lb g f n m q kd u0 t0 s0 w0) sz)) 0 0 (wA (S_met_restartNow G o ad lb g f n m q kd u0 t0 s0 w0) sz) := sorry
abbrev S_met_restart (G : GX) (o : Nat) (ad : Nat → Nat) (g : Nat → Int32) (f : Nat → Int64) (n : Nat) (m : Nat) (q : Nat) (h : Nat → Int64) (c : Nat) (a0 : Nat → Int64) (u0 : Nat → Int64) (t0 : Nat → Int64) (s0 : Nat → Int64) (w0 : Nat → Int64) (x : Int32) : List va_W := [[(o, wo 5 (mo ad (ad 0) g))], [(ad 0, wL G 208 f)], [(ad 4, wL G 2080 h)], [(ad 2, wL G 208 a0)], [(ad 8, wL G 6 u0)], [(ad 7, wL G 6 t0)], [(ad 9, wL G 6 s0)], [(ad 5, wL G 6 w0)]]
abbrev Q_met_restart (G : GX) (o : Nat) (ad : Nat → Nat) (g : Nat → Int32) (f : Nat → Int64) (n : Nat) (m : Nat) (q : Nat) (h : Nat → Int64) (c : Nat) (a0 : Nat → Int64) (u0 : Nat → Int64) (t0 : Nat → Int64) (s0 : Nat → Int64) (w0 : Nat → Int64) (x : Int32) (A : Nat → Prop) := wQi' G (fun (r : Int32) (z : (Nat → Int64) × (Nat → Int64) × (Nat → Int64) × (Nat → Int64) × (Nat → Int64)) => r = if 0 ≤ x ∧ x < nI 3 then rRs rootM n m q f x.toNatClampNeg else nI 0) (fun (z : (Nat → Int64) × (Nat → Int64) × (Nat → Int64) × (Nat → Int64) × (Nat → Int64)) => ([[(o, wo 5 (mo ad (ad 0) (if (0 ≤ x ∧ x < nI 3) ∧ ¬ rRs rootM n m q f x.toNatClampNeg < 0 then upd (upd g 1 (nI 0)) 0 (nI (cRec c + 1)) else if 0 ≤ x ∧ x < nI 3 then upd g 1 (nI 0) else upd g 1 (nI 1))))], [(ad 0, wL G 208 (if (0 ≤ x ∧ x < nI 3) ∧ ¬ rRs rootM n m q f x.toNatClampNeg < 0 then fRs rootM n m q f x.toNatClampNeg else f))], [(ad 4, wL G 2080 (if (0 ≤ x ∧ x < nI 3) ∧ ¬ rRs rootM n m q f x.toNatClampNeg < 0 then hRec f h c else h))], [(ad 2, wL G 208 z.1)], [(ad 8, wL G 6 z.2.1)], [(ad 7, wL G 6 z.2.2.1)], [(ad 9, wL G 6 z.2.2.2.1)], [(ad 5, wL G 6 z.2.2.2.2)]] : List va_W)) A
set_option maxHeartbeats 8000000 in
set_option maxRecDepth 100000 in
theorem met_restart (l : Launch) (G : GX) (sz : Nat) (o : Nat) (ad : Nat → Nat) (g : Nat → Int32) (f : Nat → Int64) (n : Nat) (m : Nat) (q : Nat) (h : Nat → Int64) (c : Nat) (a0 : Nat → Int64) (u0 : Nat → Int64) (t0 : Nat → Int64) (s0 : Nat → Int64) (w0 : Nat → Int64) (x : Int32) (h0 : f 0 = lN n) (h4 : f 4 = lN m) (h6 : f 6 = lN q) (hn : n ≤ 6) (hm : m ≤ 6) (hq : q ≤ 6) (hbt : ∀ j, j + 1 < m → ¬ f (102 + j) = 0) (hg0 : g 0 = nI c) (hc : c ≤ 10) : Met l yX6_restart (ws_ yX6_restart cX6_restart 3 (some .int)) ({ frames := 7, cells := 0, slots := 0, locals := 164 }) (va_Pc [.ref o, .int x] (wPre G (S_met_restart G o ad g f n m q h c a0 u0 t0 s0 w0 x) sz)) (Q_met_restart G o ad g f n m q h c a0 u0 t0 s0 w0 x (wA (S_met_restart G o ad g f n m q h c a0 u0 t0 s0 w0 x) sz)) 0 0 (wA (S_met_restart G o ad g f n m q h c a0 u0 t0 s0 w0 x) sz) := sorry
end
section
abbrev S_met_lockAll (G : GX) (o : Nat) (ad : Nat → Nat) (lb : Nat) (g : Nat → Int32) (f : Nat → Int64) (n : Nat) (m : Nat) (q : Nat) (u0 : Nat → Int64) (t0 : Nat → Int64) : List va_W := [[(o, wo 5 (mo ad lb g))], [(lb, wL G 208 f)], [(ad 8, wL G 6 u0)], [(ad 7, wL G 6 t0)]]
abbrev Q_met_lockAll (G : GX) (o : Nat) (ad : Nat → Nat) (lb : Nat) (g : Nat → Int32) (f : Nat → Int64) (n : Nat) (m : Nat) (q : Nat) (u0 : Nat → Int64) (t0 : Nat → Int64) (A : Nat → Prop) := wQi' G (fun (r : Int32) (z : (Nat → Int64) × (Nat → Int64)) => r = nI ((sLA rootM n m (f, q) m).2 - q)) (fun (z : (Nat → Int64) × (Nat → Int64)) => ([[(o, wo 5 (mo ad lb g))], [(lb, wL G 208 ((sLA rootM n m (f, q) m).1))], [(ad 8, wL G 6 z.1)], [(ad 7, wL G 6 z.2)]] : List va_W)) A
set_option maxHeartbeats 8000000 in
set_option maxRecDepth 100000 in
theorem met_lockAll (l : Launch) (G : GX) (sz : Nat) (o : Nat) (ad : Nat → Nat) (lb : Nat) (g : Nat → Int32) (f : Nat → Int64) (n : Nat) (m : Nat) (q : Nat) (u0 : Nat → Int64) (t0 : Nat → Int64) (h0 : f 0 = lN n) (h4 : f 4 = lN m) (h6 : f 6 = lN q) (hn : n ≤ 6) (hm : m ≤ 6) (hqn : q ≤ n) (hbt : ∀ j, j + 1 < m → ¬ f (102 + j) = 0) : Met l yX6_lockAll (ws_ yX6_lockAll cX6_lockAll 3 (some .int)) ({ frames := 5, cells := 0, slots := 0, locals := 134 }) (va_Pc [.ref o] (wPre G (S_met_lockAll G o ad lb g f n m q u0 t0) sz)) (Q_met_lockAll G o ad lb g f n m q u0 t0 (wA (S_met_lockAll G o ad lb g f n m q u0 t0) sz)) 0 0 (wA (S_met_lockAll G o ad lb g f n m q u0 t0) sz) := sorry
theorem sLA_in {R : Int64 → Int64} {n m q : Nat} {f : Nat → Int64} (h6 : f 6 = lN q) (hq : q ≤ n) (k : Nat) : (sLA R n m (f, q) k).1 6 = lN (sLA R n m (f, q) k).2 ∧ q ≤ (sLA R n m (f, q) k).2 ∧ (sLA R n m (f, q) k).2 ≤ n ∧ (∀ j, j < 157 → j ≠ 6 → (sLA R n m (f, q) k).1 j = f j) := sorry
theorem fSteps_in {R : Int64 → Int64} {n q : Nat} (hn : n ≤ 6) : ∀ (t : Nat) (f : Nat → Int64) (m : Nat), f 4 = lN m → m ≤ n → sBt f m → fSteps R n q t f m 4 = lN (m + nSteps R n q t f m) ∧ m + nSteps R n q t f m ≤ n ∧ sBt (fSteps R n q t f m) (m + nSteps R n q t f m) ∧ (∀ j, j ≠ 4 → j ≠ 5 → j ≠ 7 → j ≠ 8 → j ≠ 9 → (j < 54 ∨ 157 ≤ j) → fSteps R n q t f m j = f j) := sorry
/-- a round of sweeping: the steps, the locks, the restarts -/
def w1m (R : Int64 → Int64) (n q : Nat) (f : Nat → Int64) (m : Nat) : Nat := m + nSteps R n q 6 f m
def w1s (R : Int64 → Int64) (n q : Nat) (f : Nat → Int64) (m : Nat) : (Nat → Int64) × Nat := sLA R n (w1m R n q f m) (fSteps R n q 6 f m, q) (w1m R n q f m)
def w1r (R : Int64 → Int64) (n q : Nat) (f : Nat → Int64) (m : Nat) (kd : Nat) : Int32 := rRs R n (w1m R n q f m) (w1s R n q f m).2 (w1s R n q f m).1 kd
def w1f (R : Int64 → Int64) (n q : Nat) (f : Nat → Int64) (m : Nat) (kd : Nat) : Nat → Int64 := fRs R n (w1m R n q f m) (w1s R n q f m).2 (w1s R n q f m).1 kd
theorem in_1_5 {x : Int32} (h : 1 ≤ x.toInt64 ∧ x.toInt64 ≤ 5) : ∃ a, a ≤ 5 ∧ x = nI a := sorry
def sSw (R : Int64 → Int64) (n : Nat) : Nat → (Nat → Int64) → Nat → Nat → (Nat → Int64) × Nat
  | 0, f, _, q => (f, q)
  | t + 1, f, m, q =>
    if ¬ w1r R n q f m 2 < 0 then sSw R n t (w1f R n q f m 2) 0 (w1s R n q f m).2
    else if ¬ w1r R n q f m 0 < 0 then sSw R n t (w1f R n q f m 0) 0 (w1s R n q f m).2
    else w1s R n q f m
theorem w1_in {R : Int64 → Int64} {n q : Nat} {f : Nat → Int64} {m : Nat} (hn : n ≤ 6) (h0 : f 0 = lN n) (h4 : f 4 = lN m) (h6 : f 6 = lN q) (hm : m ≤ n) (hq : q ≤ n) (hB : sBt f m) :
    (fSteps R n q 6 f m) 0 = lN n ∧ (fSteps R n q 6 f m) 4 = lN (w1m R n q f m) ∧ (fSteps R n q 6 f m) 6 = lN q ∧ w1m R n q f m ≤ n ∧ sBt (fSteps R n q 6 f m) (w1m R n q f m) ∧ (w1s R n q f m).1 0 = lN n ∧ (w1s R n q f m).1 4 = lN (w1m R n q f m) ∧ (w1s R n q f m).1 6 = lN (w1s R n q f m).2 ∧ q ≤ (w1s R n q f m).2 ∧ (w1s R n q f m).2 ≤ n ∧ sBt (w1s R n q f m).1 (w1m R n q f m) := sorry
abbrev S_met_sweep (G : GX) (o : Nat) (ad : Nat → Nat) (g : Nat → Int32) (f : Nat → Int64) (n : Nat) (m : Nat) (q : Nat) (h : Nat → Int64) (c : Nat) (a0 : Nat → Int64) (u0 : Nat → Int64) (t0 : Nat → Int64) (s0 : Nat → Int64) (w0 : Nat → Int64) (x : Int32) : List va_W := [[(o, wo 5 (mo ad (ad 0) g))], [(ad 0, wL G 208 f)], [(ad 4, wL G 2080 h)], [(ad 2, wL G 208 a0)], [(ad 8, wL G 6 u0)], [(ad 7, wL G 6 t0)], [(ad 9, wL G 6 s0)], [(ad 5, wL G 6 w0)]]
abbrev Q_met_sweep (G : GX) (o : Nat) (ad : Nat → Nat) (g : Nat → Int32) (f : Nat → Int64) (n : Nat) (m : Nat) (q : Nat) (h : Nat → Int64) (c : Nat) (a0 : Nat → Int64) (u0 : Nat → Int64) (t0 : Nat → Int64) (s0 : Nat → Int64) (w0 : Nat → Int64) (x : Int32) (A : Nat → Prop) := wQi' G (fun (r : Int32) (z : (Nat → Int64) × (Nat → Int64) × (Nat → Int64) × (Nat → Int64) × (Nat → Int64)) => r = if 1 ≤ x.toInt64 ∧ x.toInt64 ≤ 5 then nI ((sSw rootM n x.toNatClampNeg f m q).2 - q) else nI 0) (fun (z : (Nat → Int64) × (Nat → Int64) × (Nat → Int64) × (Nat → Int64) × (Nat → Int64)) => ([[(o, wo 5 (mo ad (ad 0) (if 1 ≤ x.toInt64 ∧ x.toInt64 ≤ 5 then upd (upd g 1 (nI 0)) 0 (nI (cRec c + 1)) else upd g 1 (nI 1))))], [(ad 0, wL G 208 (if 1 ≤ x.toInt64 ∧ x.toInt64 ≤ 5 then (sSw rootM n x.toNatClampNeg f m q).1 else f))], [(ad 4, wL G 2080 (if 1 ≤ x.toInt64 ∧ x.toInt64 ≤ 5 then hRec f h c else h))], [(ad 2, wL G 208 z.1)], [(ad 8, wL G 6 z.2.1)], [(ad 7, wL G 6 z.2.2.1)], [(ad 9, wL G 6 z.2.2.2.1)], [(ad 5, wL G 6 z.2.2.2.2)]] : List va_W)) A
set_option maxHeartbeats 8000000 in
set_option maxRecDepth 100000 in
theorem met_sweep (l : Launch) (G : GX) (sz : Nat) (o : Nat) (ad : Nat → Nat) (g : Nat → Int32) (f : Nat → Int64) (n : Nat) (m : Nat) (q : Nat) (h : Nat → Int64) (c : Nat) (a0 : Nat → Int64) (u0 : Nat → Int64) (t0 : Nat → Int64) (s0 : Nat → Int64) (w0 : Nat → Int64) (x : Int32) (h0 : f 0 = lN n) (h4 : f 4 = lN m) (h6 : f 6 = lN q) (hn : n ≤ 6) (hm : m ≤ n) (hq : q ≤ n) (hB : sBt f m) (hg0 : g 0 = nI c) (hc : c ≤ 10) : Met l yX6_sweep (ws_ yX6_sweep cX6_sweep 6 (some .int)) ({ frames := 7, cells := 0, slots := 0, locals := 164 }) (va_Pc [.ref o, .int x] (wPre G (S_met_sweep G o ad g f n m q h c a0 u0 t0 s0 w0 x) sz)) (Q_met_sweep G o ad g f n m q h c a0 u0 t0 s0 w0 x (wA (S_met_sweep G o ad g f n m q h c a0 u0 t0 s0 w0 x) sz)) 0 0 (wA (S_met_sweep G o ad g f n m q h c a0 u0 t0 s0 w0 x) sz) := sorry
/-- steps until a Ritz pair has converged: their number, or -1 -/
def sConv (R : Int64 → Int64) (n q : Nat) : Nat → (Nat → Int64) → Nat → Nat → Int32
  | 0, f, m, c => if bHasR R f m m = true then nI c else -1
  | t + 1, f, m, c => if bHasR R f m m = true then nI c else if f 5 = 0 ∧ m < n then sConv R n q t (fStep R n q f m) (m + 1) (c + 1) else -1
theorem sConv_t {R : Int64 → Int64} {n q t : Nat} {f : Nat → Int64} {m c : Nat} (h : bHasR R f m m = true) : sConv R n q t f m c = nI c := sorry
theorem sConv_f {R : Int64 → Int64} {n q t : Nat} {f : Nat → Int64} {m c : Nat} (h : ¬ bHasR R f m m = true) (h2 : ¬ (f 5 = 0 ∧ m < n)) : sConv R n q t f m c = -1 := sorry
theorem sConv_s {R : Int64 → Int64} {n q t : Nat} {f : Nat → Int64} {m c : Nat} (h : ¬ bHasR R f m m = true) (h2 : f 5 = 0 ∧ m < n) : sConv R n q (t + 1) f m c = sConv R n q t (fStep R n q f m) (m + 1) (c + 1) := sorry
abbrev S_met_convergesIn (G : GX) (o : Nat) (ad : Nat → Nat) (g : Nat → Int32) (f : Nat → Int64) (n : Nat) (m : Nat) (q : Nat) (a0 : Nat → Int64) (u0 : Nat → Int64) (w0 : Nat → Int64) : List va_W := [[(o, wo 5 (mo ad (ad 0) g))], [(ad 0, wL G 208 f)], [(ad 2, wL G 208 a0)], [(ad 8, wL G 6 u0)], [(ad 5, wL G 6 w0)]]
abbrev Q_met_convergesIn (G : GX) (o : Nat) (ad : Nat → Nat) (g : Nat → Int32) (f : Nat → Int64) (n : Nat) (m : Nat) (q : Nat) (a0 : Nat → Int64) (u0 : Nat → Int64) (w0 : Nat → Int64) (A : Nat → Prop) := wQi' G (fun (r : Int32) (z : (Nat → Int64) × (Nat → Int64) × (Nat → Int64)) => r = (sConv rootM n q 6 f m 0)) (fun (z : (Nat → Int64) × (Nat → Int64) × (Nat → Int64)) => ([[(o, wo 5 (mo ad (ad 0) (upd g 1 (nI 0))))], [(ad 0, wL G 208 f)], [(ad 2, wL G 208 z.1)], [(ad 8, wL G 6 z.2.1)], [(ad 5, wL G 6 z.2.2)]] : List va_W)) A
set_option maxHeartbeats 8000000 in
set_option maxRecDepth 100000 in
theorem met_convergesIn (l : Launch) (G : GX) (sz : Nat) (o : Nat) (ad : Nat → Nat) (g : Nat → Int32) (f : Nat → Int64) (n : Nat) (m : Nat) (q : Nat) (a0 : Nat → Int64) (u0 : Nat → Int64) (w0 : Nat → Int64) (h0 : f 0 = lN n) (h4 : f 4 = lN m) (h6 : f 6 = lN q) (hn : n ≤ 6) (hm : m ≤ n) (hq : q ≤ 6) (hB : sBt f m) : Met l yX6_convergesIn (ws_ yX6_convergesIn cX6_convergesIn 3 (some .int)) ({ frames := 5, cells := 0, slots := 0, locals := 130 }) (va_Pc [.ref o] (wPre G (S_met_convergesIn G o ad g f n m q a0 u0 w0) sz)) (Q_met_convergesIn G o ad g f n m q a0 u0 w0 (wA (S_met_convergesIn G o ad g f n m q a0 u0 w0) sz)) 0 0 (wA (S_met_convergesIn G o ad g f n m q a0 u0 w0) sz) := sorry
end
section
section WR5
variable {p : Program} {l : Launch} {e : Env} {R : Room} {s : State} {m : MethodId} {args : Array Value} {below : List Frame} {meth : Method} {c : Code} {H : Heap} {locs : List Loc} {cells slots : Nat} {Q : State → Prop}
variable {cc : ByteArray} {pc : Nat} {ls : Array Slot} {rest : List Value} {G : GX} {A : Nat → Prop} {a : Nat} {S : List va_W} {H0 : Heap}
theorem ww_dret {σ : Type} {post : UInt64 → σ → Prop} {S1 : σ → List va_W} {v : UInt64} {mc ms : Nat} (u : σ) (hexec : p.tables.exec = Jvm.exec) (hb : c.code = cc) (hr : meth.sig.returnType = some .double) (hlocks : meth.locks = false) (hP : wP G.1 vwCl (S1 u) H) (hD : wD A (S1 u)) (hS : va_S A s.heap H locs) (h1 : cells ≤ mc) (h2 : slots ≤ ms) (hdg : decode cc pc = .ok (.dreturn, 1)) (hp : post v u) : W p l e R s m args below meth c H locs cells slots (MQ below (wQd' G post S1 A) args s mc ms A) (F0 m pc ls [.double v]) := sorry
end WR5
/-- a row of ints written behind the first k -/
def wAll (f : Nat → Int32) (k : Nat) (l : List Int32) : Nat → Int32 := fun j => if k ≤ j ∧ j < k + l.length then l.getD (j - k) 0 else f j
theorem wAll_0 {f : Nat → Int32} {k : Nat} : wAll f k [] = f := sorry
theorem wAll_1 {f : Nat → Int32} {k : Nat} {x : Int32} : wAll f k [x] = upd f k x := sorry
theorem wAll_app {f : Nat → Int32} {k : Nat} {l r : List Int32} : wAll (wAll f k l) (k + l.length) r = wAll f k (l ++ r) := sorry
theorem wAll_s {f : Nat → Int32} {k : Nat} {l : List Int32} {x : Int32} {n : Nat} (hn : n = k + l.length) : upd (wAll f k l) n x = wAll f k (l ++ [x]) := sorry
/-- the digits of a number, as bytes -/
def decL : Nat → Nat → List Int32
  | 0, x => [nI (48 + x % 10)]
  | t + 1, x => if x ≤ 9 then [nI (48 + x % 10)] else decL t (x / 10) ++ [nI (48 + x % 10)]
theorem decL_len (t x : Nat) : (decL t x).length ≤ t + 1 := sorry
theorem decL_1 {t x : Nat} (h : x ≤ 9) : decL t x = [nI (48 + x % 10)] := sorry
theorem decL_2 {t x : Nat} (h : ¬ x ≤ 9) : decL (t + 1) x = decL t (x / 10) ++ [nI (48 + x % 10)] := sorry
theorem decL_s {t x : Nat} (h : x < 10 ^ (t + 1)) : decL (t + 1) x = decL t x := sorry
theorem decL_up {t u x : Nat} (h : x < 10 ^ (t + 1)) (hu : t ≤ u) : decL u x = decL t x := sorry
end
section
def sMB (R : Int64 → Int64) (f : Nat → Int64) (m : Nat) : Nat → Int64
  | 0 => 0
  | k + 1 => sMB R f m k + sBnd R f m k

abbrev S_met_meanBound (G : GX) (o : Nat) (ad : Nat → Nat) (g : Nat → Int32) (f : Nat → Int64) (m : Nat) (u0 : Nat → Int64) : List va_W := [[(o, wo 5 (mo ad (ad 0) g))], [(ad 0, wL G 208 f)], [(ad 8, wL G 6 u0)]]
abbrev Q_met_meanBound (G : GX) (o : Nat) (ad : Nat → Nat) (g : Nat → Int32) (f : Nat → Int64) (m : Nat) (u0 : Nat → Int64) (A : Nat → Prop) := wQd' G (fun (r : UInt64) (z : Nat → Int64) => r = if m = 0 then FP.dconst0 else (FP.ddiv (FP.l2d (sMB rootM f m m)) (FP.i2d (nI m)))) (fun (z : Nat → Int64) => ([[(o, wo 5 (mo ad (ad 0) (upd g 1 (nI 0))))], [(ad 0, wL G 208 f)], [(ad 8, wL G 6 z)]] : List va_W)) A
set_option maxHeartbeats 8000000 in
set_option maxRecDepth 100000 in
theorem met_meanBound (l : Launch) (G : GX) (sz : Nat) (o : Nat) (ad : Nat → Nat) (g : Nat → Int32) (f : Nat → Int64) (m : Nat) (u0 : Nat → Int64) (h4 : f 4 = lN m) (hm : m ≤ 6) (hbt : ∀ j, j + 1 < m → ¬ f (102 + j) = 0) (hnn : m = 0 ∨ vf_n64 (FP.ddiv (FP.l2d (sMB rootM f m m)) (FP.i2d (nI m)))) : Met l yX6_meanBound (ws_ yX6_meanBound cX6_meanBound 4 (some .double)) ({ frames := 4, cells := 0, slots := 0, locals := 109 }) (va_Pc [.ref o] (wPre G (S_met_meanBound G o ad g f m u0) sz)) (Q_met_meanBound G o ad g f m u0 (wA (S_met_meanBound G o ad g f m u0) sz)) 0 0 (wA (S_met_meanBound G o ad g f m u0) sz) := sorry
abbrev S_met_undoCount (G : GX) (o : Nat) (ad : Nat → Nat) (lb : Nat) (g : Nat → Int32) : List va_W := [[(o, wo 5 (mo ad lb g))]]
abbrev Q_met_undoCount (G : GX) (o : Nat) (ad : Nat → Nat) (lb : Nat) (g : Nat → Int32) (A : Nat → Prop) := wQi' G (fun (r : Int32) (z : Unit) => r = g 0) (fun (z : Unit) => ([[(o, wo 5 (mo ad lb (upd g 1 (nI 0))))]] : List va_W)) A
set_option maxHeartbeats 8000000 in
set_option maxRecDepth 100000 in
theorem met_undoCount (l : Launch) (G : GX) (sz : Nat) (o : Nat) (ad : Nat → Nat) (lb : Nat) (g : Nat → Int32)  : Met l yX6_undoCount (ws_ yX6_undoCount cX6_undoCount 1 (some .int)) ({ frames := 0, cells := 0, slots := 0, locals := 0 }) (va_Pc [.ref o] (wPre G (S_met_undoCount G o ad lb g) sz)) (Q_met_undoCount G o ad lb g (wA (S_met_undoCount G o ad lb g) sz)) 0 0 (wA (S_met_undoCount G o ad lb g) sz) := sorry
abbrev S_met_errorPosition (G : GX) (o : Nat) (ad : Nat → Nat) (lb : Nat) (g : Nat → Int32) : List va_W := [[(o, wo 5 (mo ad lb g))]]
abbrev Q_met_errorPosition (G : GX) (o : Nat) (ad : Nat → Nat) (lb : Nat) (g : Nat → Int32) (A : Nat → Prop) := wQi' G (fun (r : Int32) (z : Unit) => r = g 11) (fun (z : Unit) => ([[(o, wo 5 (mo ad lb (upd g 1 (nI 0))))]] : List va_W)) A
set_option maxHeartbeats 8000000 in
set_option maxRecDepth 100000 in
theorem met_errorPosition (l : Launch) (G : GX) (sz : Nat) (o : Nat) (ad : Nat → Nat) (lb : Nat) (g : Nat → Int32)  : Met l yX6_errorPosition (ws_ yX6_errorPosition cX6_errorPosition 1 (some .int)) ({ frames := 0, cells := 0, slots := 0, locals := 0 }) (va_Pc [.ref o] (wPre G (S_met_errorPosition G o ad lb g) sz)) (Q_met_errorPosition G o ad lb g (wA (S_met_errorPosition G o ad lb g) sz)) 0 0 (wA (S_met_errorPosition G o ad lb g) sz) := sorry
abbrev S_met_write (G : GX) (o : Nat) (ad : Nat → Nat) (lb : Nat) (g : Nat → Int32) (ft : Nat → Int32) (j : Nat) (x : Int32) : List va_W := [[(o, wo 5 (mo ad lb g))], [(ad 10, wI G 60 ft)]]
abbrev Q_met_write (G : GX) (o : Nat) (ad : Nat → Nat) (lb : Nat) (g : Nat → Int32) (ft : Nat → Int32) (j : Nat) (x : Int32) (A : Nat → Prop) := wQv' G (fun (z : Unit) => True) (fun (z : Unit) => ([[(o, wo 5 (mo ad lb (upd g 3 (nI (j + 1)))))], [(ad 10, wI G 60 (wAll ft j [x]))]] : List va_W)) A
set_option maxHeartbeats 8000000 in
set_option maxRecDepth 100000 in
theorem met_write (l : Launch) (G : GX) (sz : Nat) (o : Nat) (ad : Nat → Nat) (lb : Nat) (g : Nat → Int32) (ft : Nat → Int32) (j : Nat) (x : Int32) (hj : g 3 = nI j) (hj6 : j < 60) : Met l yX6_write (ws_ yX6_write cX6_write 2 none) ({ frames := 0, cells := 0, slots := 0, locals := 0 }) (va_Pc [.ref o, .int x] (wPre G (S_met_write G o ad lb g ft j x) sz)) (Q_met_write G o ad lb g ft j x (wA (S_met_write G o ad lb g ft j x) sz)) 0 0 (wA (S_met_write G o ad lb g ft j x) sz) := sorry
theorem lN_div {x d : Nat} (hx : x < 2 ^ 31) (hd : d < 2 ^ 31) : lN x / lN d = lN (x / d) := sorry
theorem lN_rem {x d : Nat} (hx : x < 2 ^ 31) (hd : d < 2 ^ 31) : lN x - lN x / lN d * lN d = lN (x % d) := sorry
abbrev S_met_writeNumber_0 (G : GX) (o : Nat) (ad : Nat → Nat) (lb : Nat) (g : Nat → Int32) (ft : Nat → Int32) (j : Nat) (x : Nat) : List va_W := [[(o, wo 5 (mo ad lb g))], [(ad 10, wI G 60 ft)]]
abbrev Q_met_writeNumber_0 (G : GX) (o : Nat) (ad : Nat → Nat) (lb : Nat) (g : Nat → Int32) (ft : Nat → Int32) (j : Nat) (x : Nat) (A : Nat → Prop) := wQv' G (fun (z : Unit) => True) (fun (z : Unit) => ([[(o, wo 5 (mo ad lb (upd g 3 (nI (j + (decL 0 x).length)))))], [(ad 10, wI G 60 (wAll ft j (decL 0 x)))]] : List va_W)) A
set_option maxHeartbeats 8000000 in
set_option maxRecDepth 100000 in
theorem met_writeNumber_0 (l : Launch) (G : GX) (sz : Nat) (o : Nat) (ad : Nat → Nat) (lb : Nat) (g : Nat → Int32) (ft : Nat → Int32) (j : Nat) (x : Nat) (hj : g 3 = nI j) (hj6 : j + 0 < 60) (hx31 : x < 2 ^ 31) (hx : x < 10) : Met l yX6_writeNumber (ws_ yX6_writeNumber cX6_writeNumber 3 none) ({ frames := 1, cells := 0, slots := 0, locals := 21 }) (va_Pc [.ref o, .long (lN x)] (wPre G (S_met_writeNumber_0 G o ad lb g ft j x) sz)) (Q_met_writeNumber_0 G o ad lb g ft j x (wA (S_met_writeNumber_0 G o ad lb g ft j x) sz)) 0 0 (wA (S_met_writeNumber_0 G o ad lb g ft j x) sz) := sorry
abbrev S_met_writeNumber_1 (G : GX) (o : Nat) (ad : Nat → Nat) (lb : Nat) (g : Nat → Int32) (ft : Nat → Int32) (j : Nat) (x : Nat) : List va_W := [[(o, wo 5 (mo ad lb g))], [(ad 10, wI G 60 ft)]]
abbrev Q_met_writeNumber_1 (G : GX) (o : Nat) (ad : Nat → Nat) (lb : Nat) (g : Nat → Int32) (ft : Nat → Int32) (j : Nat) (x : Nat) (A : Nat → Prop) := wQv' G (fun (z : Unit) => True) (fun (z : Unit) => ([[(o, wo 5 (mo ad lb (upd g 3 (nI (j + (decL 1 x).length)))))], [(ad 10, wI G 60 (wAll ft j (decL 1 x)))]] : List va_W)) A
set_option maxHeartbeats 8000000 in
set_option maxRecDepth 100000 in
theorem met_writeNumber_1 (l : Launch) (G : GX) (sz : Nat) (o : Nat) (ad : Nat → Nat) (lb : Nat) (g : Nat → Int32) (ft : Nat → Int32) (j : Nat) (x : Nat) (hj : g 3 = nI j) (hj6 : j + 1 < 60) (hx31 : x < 2 ^ 31) (hx : x < 100) : Met l yX6_writeNumber (ws_ yX6_writeNumber cX6_writeNumber 3 none) ({ frames := 2, cells := 0, slots := 0, locals := 43 }) (va_Pc [.ref o, .long (lN x)] (wPre G (S_met_writeNumber_1 G o ad lb g ft j x) sz)) (Q_met_writeNumber_1 G o ad lb g ft j x (wA (S_met_writeNumber_1 G o ad lb g ft j x) sz)) 0 0 (wA (S_met_writeNumber_1 G o ad lb g ft j x) sz) := sorry
abbrev S_met_writeNumber_2 (G : GX) (o : Nat) (ad : Nat → Nat) (lb : Nat) (g : Nat → Int32) (ft : Nat → Int32) (j : Nat) (x : Nat) : List va_W := [[(o, wo 5 (mo ad lb g))], [(ad 10, wI G 60 ft)]]
abbrev Q_met_writeNumber_2 (G : GX) (o : Nat) (ad : Nat → Nat) (lb : Nat) (g : Nat → Int32) (ft : Nat → Int32) (j : Nat) (x : Nat) (A : Nat → Prop) := wQv' G (fun (z : Unit) => True) (fun (z : Unit) => ([[(o, wo 5 (mo ad lb (upd g 3 (nI (j + (decL 2 x).length)))))], [(ad 10, wI G 60 (wAll ft j (decL 2 x)))]] : List va_W)) A
set_option maxHeartbeats 8000000 in
set_option maxRecDepth 100000 in
theorem met_writeNumber_2 (l : Launch) (G : GX) (sz : Nat) (o : Nat) (ad : Nat → Nat) (lb : Nat) (g : Nat → Int32) (ft : Nat → Int32) (j : Nat) (x : Nat) (hj : g 3 = nI j) (hj6 : j + 2 < 60) (hx31 : x < 2 ^ 31) (hx : x < 1000) : Met l yX6_writeNumber (ws_ yX6_writeNumber cX6_writeNumber 3 none) ({ frames := 3, cells := 0, slots := 0, locals := 65 }) (va_Pc [.ref o, .long (lN x)] (wPre G (S_met_writeNumber_2 G o ad lb g ft j x) sz)) (Q_met_writeNumber_2 G o ad lb g ft j x (wA (S_met_writeNumber_2 G o ad lb g ft j x) sz)) 0 0 (wA (S_met_writeNumber_2 G o ad lb g ft j x) sz) := sorry
abbrev S_met_writeNumber_3 (G : GX) (o : Nat) (ad : Nat → Nat) (lb : Nat) (g : Nat → Int32) (ft : Nat → Int32) (j : Nat) (x : Nat) : List va_W := [[(o, wo 5 (mo ad lb g))], [(ad 10, wI G 60 ft)]]
abbrev Q_met_writeNumber_3 (G : GX) (o : Nat) (ad : Nat → Nat) (lb : Nat) (g : Nat → Int32) (ft : Nat → Int32) (j : Nat) (x : Nat) (A : Nat → Prop) := wQv' G (fun (z : Unit) => True) (fun (z : Unit) => ([[(o, wo 5 (mo ad lb (upd g 3 (nI (j + (decL 3 x).length)))))], [(ad 10, wI G 60 (wAll ft j (decL 3 x)))]] : List va_W)) A
set_option maxHeartbeats 8000000 in
set_option maxRecDepth 100000 in
theorem met_writeNumber_3 (l : Launch) (G : GX) (sz : Nat) (o : Nat) (ad : Nat → Nat) (lb : Nat) (g : Nat → Int32) (ft : Nat → Int32) (j : Nat) (x : Nat) (hj : g 3 = nI j) (hj6 : j + 3 < 60) (hx31 : x < 2 ^ 31) (hx : x < 10000) : Met l yX6_writeNumber (ws_ yX6_writeNumber cX6_writeNumber 3 none) ({ frames := 4, cells := 0, slots := 0, locals := 87 }) (va_Pc [.ref o, .long (lN x)] (wPre G (S_met_writeNumber_3 G o ad lb g ft j x) sz)) (Q_met_writeNumber_3 G o ad lb g ft j x (wA (S_met_writeNumber_3 G o ad lb g ft j x) sz)) 0 0 (wA (S_met_writeNumber_3 G o ad lb g ft j x) sz) := sorry
abbrev S_met_writeNumber_4 (G : GX) (o : Nat) (ad : Nat → Nat) (lb : Nat) (g : Nat → Int32) (ft : Nat → Int32) (j : Nat) (x : Nat) : List va_W := [[(o, wo 5 (mo ad lb g))], [(ad 10, wI G 60 ft)]]
abbrev Q_met_writeNumber_4 (G : GX) (o : Nat) (ad : Nat → Nat) (lb : Nat) (g : Nat → Int32) (ft : Nat → Int32) (j : Nat) (x : Nat) (A : Nat → Prop) := wQv' G (fun (z : Unit) => True) (fun (z : Unit) => ([[(o, wo 5 (mo ad lb (upd g 3 (nI (j + (decL 4 x).length)))))], [(ad 10, wI G 60 (wAll ft j (decL 4 x)))]] : List va_W)) A
set_option maxHeartbeats 8000000 in
set_option maxRecDepth 100000 in
theorem met_writeNumber_4 (l : Launch) (G : GX) (sz : Nat) (o : Nat) (ad : Nat → Nat) (lb : Nat) (g : Nat → Int32) (ft : Nat → Int32) (j : Nat) (x : Nat) (hj : g 3 = nI j) (hj6 : j + 4 < 60) (hx31 : x < 2 ^ 31) (hx : x < 100000) : Met l yX6_writeNumber (ws_ yX6_writeNumber cX6_writeNumber 3 none) ({ frames := 5, cells := 0, slots := 0, locals := 109 }) (va_Pc [.ref o, .long (lN x)] (wPre G (S_met_writeNumber_4 G o ad lb g ft j x) sz)) (Q_met_writeNumber_4 G o ad lb g ft j x (wA (S_met_writeNumber_4 G o ad lb g ft j x) sz)) 0 0 (wA (S_met_writeNumber_4 G o ad lb g ft j x) sz) := sorry
abbrev S_met_writeNumber_5 (G : GX) (o : Nat) (ad : Nat → Nat) (lb : Nat) (g : Nat → Int32) (ft : Nat → Int32) (j : Nat) (x : Nat) : List va_W := [[(o, wo 5 (mo ad lb g))], [(ad 10, wI G 60 ft)]]
abbrev Q_met_writeNumber_5 (G : GX) (o : Nat) (ad : Nat → Nat) (lb : Nat) (g : Nat → Int32) (ft : Nat → Int32) (j : Nat) (x : Nat) (A : Nat → Prop) := wQv' G (fun (z : Unit) => True) (fun (z : Unit) => ([[(o, wo 5 (mo ad lb (upd g 3 (nI (j + (decL 5 x).length)))))], [(ad 10, wI G 60 (wAll ft j (decL 5 x)))]] : List va_W)) A
set_option maxHeartbeats 8000000 in
set_option maxRecDepth 100000 in
theorem met_writeNumber_5 (l : Launch) (G : GX) (sz : Nat) (o : Nat) (ad : Nat → Nat) (lb : Nat) (g : Nat → Int32) (ft : Nat → Int32) (j : Nat) (x : Nat) (hj : g 3 = nI j) (hj6 : j + 5 < 60) (hx31 : x < 2 ^ 31) (hx : x < 1000000) : Met l yX6_writeNumber (ws_ yX6_writeNumber cX6_writeNumber 3 none) ({ frames := 6, cells := 0, slots := 0, locals := 131 }) (va_Pc [.ref o, .long (lN x)] (wPre G (S_met_writeNumber_5 G o ad lb g ft j x) sz)) (Q_met_writeNumber_5 G o ad lb g ft j x (wA (S_met_writeNumber_5 G o ad lb g ft j x) sz)) 0 0 (wA (S_met_writeNumber_5 G o ad lb g ft j x) sz) := sorry
abbrev S_met_writeNumber_6 (G : GX) (o : Nat) (ad : Nat → Nat) (lb : Nat) (g : Nat → Int32) (ft : Nat → Int32) (j : Nat) (x : Nat) : List va_W := [[(o, wo 5 (mo ad lb g))], [(ad 10, wI G 60 ft)]]
abbrev Q_met_writeNumber_6 (G : GX) (o : Nat) (ad : Nat → Nat) (lb : Nat) (g : Nat → Int32) (ft : Nat → Int32) (j : Nat) (x : Nat) (A : Nat → Prop) := wQv' G (fun (z : Unit) => True) (fun (z : Unit) => ([[(o, wo 5 (mo ad lb (upd g 3 (nI (j + (decL 6 x).length)))))], [(ad 10, wI G 60 (wAll ft j (decL 6 x)))]] : List va_W)) A
set_option maxHeartbeats 8000000 in
set_option maxRecDepth 100000 in
theorem met_writeNumber_6 (l : Launch) (G : GX) (sz : Nat) (o : Nat) (ad : Nat → Nat) (lb : Nat) (g : Nat → Int32) (ft : Nat → Int32) (j : Nat) (x : Nat) (hj : g 3 = nI j) (hj6 : j + 6 < 60) (hx31 : x < 2 ^ 31) (hx : x < 10000000) : Met l yX6_writeNumber (ws_ yX6_writeNumber cX6_writeNumber 3 none) ({ frames := 7, cells := 0, slots := 0, locals := 153 }) (va_Pc [.ref o, .long (lN x)] (wPre G (S_met_writeNumber_6 G o ad lb g ft j x) sz)) (Q_met_writeNumber_6 G o ad lb g ft j x (wA (S_met_writeNumber_6 G o ad lb g ft j x) sz)) 0 0 (wA (S_met_writeNumber_6 G o ad lb g ft j x) sz) := sorry
abbrev S_met_writeNumber_7 (G : GX) (o : Nat) (ad : Nat → Nat) (lb : Nat) (g : Nat → Int32) (ft : Nat → Int32) (j : Nat) (x : Nat) : List va_W := [[(o, wo 5 (mo ad lb g))], [(ad 10, wI G 60 ft)]]
abbrev Q_met_writeNumber_7 (G : GX) (o : Nat) (ad : Nat → Nat) (lb : Nat) (g : Nat → Int32) (ft : Nat → Int32) (j : Nat) (x : Nat) (A : Nat → Prop) := wQv' G (fun (z : Unit) => True) (fun (z : Unit) => ([[(o, wo 5 (mo ad lb (upd g 3 (nI (j + (decL 7 x).length)))))], [(ad 10, wI G 60 (wAll ft j (decL 7 x)))]] : List va_W)) A
set_option maxHeartbeats 8000000 in
set_option maxRecDepth 100000 in
theorem met_writeNumber_7 (l : Launch) (G : GX) (sz : Nat) (o : Nat) (ad : Nat → Nat) (lb : Nat) (g : Nat → Int32) (ft : Nat → Int32) (j : Nat) (x : Nat) (hj : g 3 = nI j) (hj6 : j + 7 < 60) (hx31 : x < 2 ^ 31) (hx : x < 100000000) : Met l yX6_writeNumber (ws_ yX6_writeNumber cX6_writeNumber 3 none) ({ frames := 8, cells := 0, slots := 0, locals := 175 }) (va_Pc [.ref o, .long (lN x)] (wPre G (S_met_writeNumber_7 G o ad lb g ft j x) sz)) (Q_met_writeNumber_7 G o ad lb g ft j x (wA (S_met_writeNumber_7 G o ad lb g ft j x) sz)) 0 0 (wA (S_met_writeNumber_7 G o ad lb g ft j x) sz) := sorry
abbrev S_met_writeNumber_8 (G : GX) (o : Nat) (ad : Nat → Nat) (lb : Nat) (g : Nat → Int32) (ft : Nat → Int32) (j : Nat) (x : Nat) : List va_W := [[(o, wo 5 (mo ad lb g))], [(ad 10, wI G 60 ft)]]
abbrev Q_met_writeNumber_8 (G : GX) (o : Nat) (ad : Nat → Nat) (lb : Nat) (g : Nat → Int32) (ft : Nat → Int32) (j : Nat) (x : Nat) (A : Nat → Prop) := wQv' G (fun (z : Unit) => True) (fun (z : Unit) => ([[(o, wo 5 (mo ad lb (upd g 3 (nI (j + (decL 8 x).length)))))], [(ad 10, wI G 60 (wAll ft j (decL 8 x)))]] : List va_W)) A
set_option maxHeartbeats 8000000 in
set_option maxRecDepth 100000 in
theorem met_writeNumber_8 (l : Launch) (G : GX) (sz : Nat) (o : Nat) (ad : Nat → Nat) (lb : Nat) (g : Nat → Int32) (ft : Nat → Int32) (j : Nat) (x : Nat) (hj : g 3 = nI j) (hj6 : j + 8 < 60) (hx31 : x < 2 ^ 31) (hx : x < 1000000000) : Met l yX6_writeNumber (ws_ yX6_writeNumber cX6_writeNumber 3 none) ({ frames := 9, cells := 0, slots := 0, locals := 197 }) (va_Pc [.ref o, .long (lN x)] (wPre G (S_met_writeNumber_8 G o ad lb g ft j x) sz)) (Q_met_writeNumber_8 G o ad lb g ft j x (wA (S_met_writeNumber_8 G o ad lb g ft j x) sz)) 0 0 (wA (S_met_writeNumber_8 G o ad lb g ft j x) sz) := sorry
abbrev S_met_writeNumber_9 (G : GX) (o : Nat) (ad : Nat → Nat) (lb : Nat) (g : Nat → Int32) (ft : Nat → Int32) (j : Nat) (x : Nat) : List va_W := [[(o, wo 5 (mo ad lb g))], [(ad 10, wI G 60 ft)]]
abbrev Q_met_writeNumber_9 (G : GX) (o : Nat) (ad : Nat → Nat) (lb : Nat) (g : Nat → Int32) (ft : Nat → Int32) (j : Nat) (x : Nat) (A : Nat → Prop) := wQv' G (fun (z : Unit) => True) (fun (z : Unit) => ([[(o, wo 5 (mo ad lb (upd g 3 (nI (j + (decL 9 x).length)))))], [(ad 10, wI G 60 (wAll ft j (decL 9 x)))]] : List va_W)) A
set_option maxHeartbeats 8000000 in
set_option maxRecDepth 100000 in
theorem met_writeNumber_9 (l : Launch) (G : GX) (sz : Nat) (o : Nat) (ad : Nat → Nat) (lb : Nat) (g : Nat → Int32) (ft : Nat → Int32) (j : Nat) (x : Nat) (hj : g 3 = nI j) (hj6 : j + 9 < 60) (hx31 : x < 2 ^ 31) (hx : x < 10000000000) : Met l yX6_writeNumber (ws_ yX6_writeNumber cX6_writeNumber 3 none) ({ frames := 10, cells := 0, slots := 0, locals := 219 }) (va_Pc [.ref o, .long (lN x)] (wPre G (S_met_writeNumber_9 G o ad lb g ft j x) sz)) (Q_met_writeNumber_9 G o ad lb g ft j x (wA (S_met_writeNumber_9 G o ad lb g ft j x) sz)) 0 0 (wA (S_met_writeNumber_9 G o ad lb g ft j x) sz) := sorry
end
section
def numN (v : Int64) : Nat := v.toInt.toNat
def sml (v : Int64) : Prop := 0 ≤ v.toInt ∧ v.toInt < 2 ^ 31
theorem sml_N {v : Int64} (h : sml v) : v = lN (numN v) ∧ numN v < 2 ^ 31 := sorry
def sSgn (v : Int64) : List Int32 := if v < 0 then [nI 45] else []
theorem sSgn_len (v : Int64) : (sSgn v).length ≤ 1 := sorry
def fUnit (i : Nat) : Nat := 100000 / 10 ^ i
theorem fUnit_s (i : Nat) : fUnit i / 10 = fUnit (i + 1) := sorry
theorem fUnit_6 {i : Nat} (h : fUnit i ≤ 0) (h6 : i ≤ 6) : i = 6 := sorry
theorem fUnit_7 {i : Nat} (h : ¬ fUnit i ≤ 0) (h6 : i ≤ 6) : i < 6 := sorry
theorem fUnit_le (i : Nat) : fUnit i ≤ 100000 := sorry
def fracL (S : Nat) : Nat → List Int32
  | 0 => []
  | i + 1 => fracL S i ++ [nI (48 + S / fUnit i % 10)]
theorem fracL_len (S i : Nat) : (fracL S i).length = i := sorry
/-- a value with its bound, as text -/
def fText (v : Int64) (B : Nat) : List Int32 := sSgn v ++ decL 9 (numN (aAbs v) / 1000000) ++ [nI 46] ++ fracL (numN (aAbs v)) 6 ++ [nI 32] ++ [nI 43] ++ [nI 45] ++ decL 9 B
theorem upd_upd {f : Nat → Int32} {k : Nat} {x y : Int32} : upd (upd f k x) k y = upd f k y := sorry
theorem wAll_z {f : Nat → Int32} {l r : List Int32} : wAll (wAll f 0 l) l.length r = wAll f 0 (l ++ r) := sorry
abbrev S_met_format (G : GX) (o : Nat) (ad : Nat → Nat) (g : Nat → Int32) (f : Nat → Int64) (m : Nat) (ft : Nat → Int32) (u0 : Nat → Int64) (x : Int32) : List va_W := [[(o, wo 5 (mo ad (ad 0) g))], [(ad 0, wL G 208 f)], [(ad 10, wI G 60 ft)], [(ad 8, wL G 6 u0)]]
abbrev Q_met_format (G : GX) (o : Nat) (ad : Nat → Nat) (g : Nat → Int32) (f : Nat → Int64) (m : Nat) (ft : Nat → Int32) (u0 : Nat → Int64) (x : Int32) (A : Nat → Prop) := wQi' G (fun (r : Int32) (z : Nat → Int64) => r = if 0 ≤ x ∧ x < nI m then nI (fText (sVal f m x.toNatClampNeg) (numN (sBnd rootM f m x.toNatClampNeg))).length else nI 0) (fun (z : Nat → Int64) => ([[(o, wo 5 (mo ad (ad 0) (if 0 ≤ x ∧ x < nI m then upd (upd g 1 (nI 0)) 3 (nI (fText (sVal f m x.toNatClampNeg) (numN (sBnd rootM f m x.toNatClampNeg))).length) else upd g 1 (nI 1))))], [(ad 0, wL G 208 f)], [(ad 10, wI G 60 (if 0 ≤ x ∧ x < nI m then wAll ft 0 (fText (sVal f m x.toNatClampNeg) (numN (sBnd rootM f m x.toNatClampNeg))) else ft))], [(ad 8, wL G 6 z)]] : List va_W)) A
set_option maxHeartbeats 8000000 in
set_option maxRecDepth 100000 in
theorem met_format (l : Launch) (G : GX) (sz : Nat) (o : Nat) (ad : Nat → Nat) (g : Nat → Int32) (f : Nat → Int64) (m : Nat) (ft : Nat → Int32) (u0 : Nat → Int64) (x : Int32) (h4 : f 4 = lN m) (hm : m ≤ 6) (hbt : ∀ j, j + 1 < m → ¬ f (102 + j) = 0) (hS9 : ∀ a, a < m → sml (aAbs (sVal f m a))) (hB9 : ∀ a, a < m → sml (sBnd rootM f m a)) : Met l yX6_format (ws_ yX6_format cX6_format 8 (some .int)) ({ frames := 11, cells := 0, slots := 0, locals := 241 }) (va_Pc [.ref o, .int x] (wPre G (S_met_format G o ad g f m ft u0 x) sz)) (Q_met_format G o ad g f m ft u0 x (wA (S_met_format G o ad g f m ft u0 x) sz)) 0 0 (wA (S_met_format G o ad g f m ft u0 x) sz) := sorry
end
section
/-! the model's scanner and parser, as functions of what was read -/
abbrev PS := Nat × Nat × Nat × Nat × Nat × Nat
def PS.nx (p : PS) : Nat := p.1
def PS.bg (p : PS) : Nat := p.2.1
def PS.tk (p : PS) : Nat := p.2.2.1
def PS.er (p : PS) : Nat := p.2.2.2.1
def PS.ea (p : PS) : Nat := p.2.2.2.2.1
def PS.ns (p : PS) : Nat := p.2.2.2.2.2
def gS (g : Nat → Int32) (p : PS) : Nat → Int32 := upd (upd (upd (upd (upd (upd g 6 (nI p.nx)) 7 (nI p.bg)) 8 (nI p.tk)) 9 (nI p.er)) 10 (nI p.ea)) 12 (nI p.ns)
def bAt (b : Nat → Int32) (lim i : Nat) : Int32 := if i < lim then b i else -1
def isSp (c : Int32) : Bool := decide (c = nI 32 ∨ c = nI 10)
def isLe (c : Int32) : Bool := decide (nI 97 ≤ c ∧ c ≤ nI 122)
def isDi (c : Int32) : Bool := decide (nI 48 ≤ c ∧ c ≤ nI 57)
def sRun (P : Int32 → Bool) (b : Nat → Int32) (lim : Nat) : Nat → Nat → Nat
  | 0, i => i
  | t + 1, i => if P (bAt b lim i) = true then sRun P b lim t (i + 1) else i
def runTo (P : Int32 → Bool) (b : Nat → Int32) (lim i : Nat) : Nat := sRun P b lim (lim - i) i
theorem sRun_in {P : Int32 → Bool} {b : Nat → Int32} {lim : Nat} : ∀ (t i : Nat), i + t ≤ lim → i ≤ sRun P b lim t i ∧ sRun P b lim t i ≤ lim := sorry
theorem runTo_in {P : Int32 → Bool} {b : Nat → Int32} {lim i : Nat} (h : i ≤ lim) : i ≤ runTo P b lim i ∧ runTo P b lim i ≤ lim := sorry
theorem bAt_lt {P : Int32 → Bool} {b : Nat → Int32} {lim i : Nat} (hP : P (-1) = false) (h : P (bAt b lim i) = true) : i < lim := sorry
theorem runTo_t {P : Int32 → Bool} {b : Nat → Int32} {lim i : Nat} (hP : P (-1) = false) (h : P (bAt b lim i) = true) : runTo P b lim i = runTo P b lim (i + 1) := sorry
theorem runTo_f {P : Int32 → Bool} {b : Nat → Int32} {lim i : Nat} (h : ¬ P (bAt b lim i) = true) : runTo P b lim i = i := sorry
theorem isSp_1 : isSp (-1) = false := sorry
theorem isLe_1 : isLe (-1) = false := sorry
theorem isDi_1 : isDi (-1) = false := sorry
/-- the first three numbers anew -/
def pTok (p : PS) (n a t : Nat) : PS := (n, a, t, p.2.2.2)
def pScan (b : Nat → Int32) (lim : Nat) (p : PS) : PS :=
  if lim ≤ runTo isSp b lim p.nx then pTok p (runTo isSp b lim p.nx) (runTo isSp b lim p.nx) 0
  else if isLe (bAt b lim (runTo isSp b lim p.nx)) = true then pTok p (runTo isLe b lim (runTo isSp b lim p.nx)) (runTo isSp b lim p.nx) 1
  else if isDi (bAt b lim (runTo isSp b lim p.nx)) = true then pTok p (runTo isDi b lim (runTo isSp b lim p.nx)) (runTo isSp b lim p.nx) 2
  else pTok p (runTo isSp b lim p.nx + 1) (runTo isSp b lim p.nx) 3
/-- what holds of a scanner's numbers -/
def PSok (lim : Nat) (p : PS) : Prop := p.nx ≤ lim ∧ p.bg ≤ p.nx ∧ (p.tk ≠ 0 → p.bg < p.nx) ∧ p.tk ≤ 3 ∧ p.er ≤ 3 ∧ p.ea ≤ 600 ∧ p.ns ≤ 7
theorem pTok_ok {lim : Nat} {p : PS} {n a t : Nat} (h1 : n ≤ lim) (h2 : a ≤ n) (h3 : t ≠ 0 → a < n) (h4 : t ≤ 3) (he : p.er ≤ 3) (ha : p.ea ≤ 600) (hs : p.ns ≤ 7) : PSok lim (pTok p n a t) := sorry
theorem pScan_ok {b : Nat → Int32} {lim : Nat} {p : PS} (hn : p.nx ≤ lim) (he : p.er ≤ 3) (ha : p.ea ≤ 600) (hs : p.ns ≤ 7) : PSok lim (pScan b lim p) := sorry
def pErr (p : PS) (e : Nat) : PS := (p.1, p.2.1, p.2.2.1, e, p.2.1, p.2.2.2.2.2)
def pEr (p : PS) (e : Nat) : PS := (p.1, p.2.1, p.2.2.1, e, p.2.2.2.2)
def pFlaw (p : PS) (e : Nat) : PS := if p.er = 0 then pErr p e else p
def pCheck (p : PS) (c : Bool) (e : Nat) : PS := if c = true then p else pFlaw p e
def pAdv (b : Nat → Int32) (lim : Nat) (p : PS) : PS := if p.er = 0 then pScan b lim p else p
theorem pFlaw_ok {lim : Nat} {p : PS} {e : Nat} (hl : lim ≤ 600) (h : PSok lim p) (he : e ≤ 3) : PSok lim (pFlaw p e) := sorry
theorem pCheck_ok {lim : Nat} {p : PS} {c : Bool} {e : Nat} (hl : lim ≤ 600) (h : PSok lim p) (he : e ≤ 3) : PSok lim (pCheck p c e) := sorry
theorem pAdv_ok {b : Nat → Int32} {lim : Nat} {p : PS} (h : PSok lim p) : PSok lim (pAdv b lim p) := sorry
/-- the token is this sign -/
def bSym (b : Nat → Int32) (p : PS) (c : Int32) : Bool := decide (p.er = 0 ∧ p.tk = 3 ∧ b p.bg = c)
/-- the token is this word -/
def bWord (b : Nat → Int32) (p : PS) (w : List Int32) : Bool := decide (p.er = 0 ∧ p.tk = 1 ∧ w.length = p.nx - p.bg ∧ ∀ k, k < w.length → w.getD k 0 = b (p.bg + k))
abbrev aMn (x y : Int64) : Int64 := if y < x then y else x
/-- a number's digits, from place k on, t of them -/
def pValL (b : Nat → Int32) : Nat → Nat → Int32 → Int32
  | 0, _, v => v
  | t + 1, k, v => pValL b t (k + 1) (Int64.toInt32 (aMn 2000000000 (10 * v.toInt64 + (b k).toInt64 - 48)))
def pVal (b : Nat → Int32) (p : PS) : Int32 := if p.tk = 2 then pValL b (p.nx - p.bg) p.bg 0 else 0
def pNum1 (p : PS) : PS := pCheck p (decide (¬ p.er = 0 ∨ p.tk = 2)) 1
def pNum2 (b : Nat → Int32) (p : PS) (lo hi : Int32) : PS := pCheck (pNum1 p) (decide (¬ (pNum1 p).er = 0 ∨ (lo.toInt64 ≤ (pVal b (pNum1 p)).toInt64 ∧ (pVal b (pNum1 p)).toInt64 ≤ hi.toInt64))) 2
def pNum (b : Nat → Int32) (lim : Nat) (p : PS) (lo hi : Int32) : PS := pAdv b lim (pNum2 b p lo hi)
def pNumV (b : Nat → Int32) (lim : Nat) (p : PS) (lo hi : Int32) : Int32 := if (pNum b lim p lo hi).er = 0 then pVal b (pNum1 p) else lo
theorem pNum1_ok {lim : Nat} {p : PS} (hl : lim ≤ 600) (h : PSok lim p) : PSok lim (pNum1 p) := sorry
theorem pNum2_ok {b : Nat → Int32} {lim : Nat} {p : PS} {lo hi : Int32} (hl : lim ≤ 600) (h : PSok lim p) : PSok lim (pNum2 b p lo hi) := sorry
theorem pNum_ok {b : Nat → Int32} {lim : Nat} {p : PS} {lo hi : Int32} (hl : lim ≤ 600) (h : PSok lim p) : PSok lim (pNum b lim p lo hi) := sorry
end
section
abbrev S_met_byteAt (G : GX) (o : Nat) (ad : Nat → Nat) (lb : Nat) (g : Nat → Int32) (b : Nat → Int32) (lim : Nat) (i : Nat) : List va_W := [[(o, wo 5 (mo ad lb g))], [(ad 11, wI G 600 b)]]
abbrev Q_met_byteAt (G : GX) (o : Nat) (ad : Nat → Nat) (lb : Nat) (g : Nat → Int32) (b : Nat → Int32) (lim : Nat) (i : Nat) (A : Nat → Prop) := wQi' G (fun (r : Int32) (z : Unit) => r = bAt b lim i) (fun (z : Unit) => ([[(o, wo 5 (mo ad lb g))], [(ad 11, wI G 600 b)]] : List va_W)) A
set_option maxHeartbeats 8000000 in
set_option maxRecDepth 100000 in
theorem met_byteAt (l : Launch) (G : GX) (sz : Nat) (o : Nat) (ad : Nat → Nat) (lb : Nat) (g : Nat → Int32) (b : Nat → Int32) (lim : Nat) (i : Nat) (hlim : g 5 = nI lim) (hl6 : lim ≤ 600) (hi : i ≤ 600) : Met l yX6_byteAt (ws_ yX6_byteAt cX6_byteAt 2 (some .int)) ({ frames := 0, cells := 0, slots := 0, locals := 0 }) (va_Pc [.ref o, .int (nI i)] (wPre G (S_met_byteAt G o ad lb g b lim i) sz)) (Q_met_byteAt G o ad lb g b lim i (wA (S_met_byteAt G o ad lb g b lim i) sz)) 0 0 (wA (S_met_byteAt G o ad lb g b lim i) sz) := sorry
abbrev S_met_isLetter (G : GX) (o : Nat) (ad : Nat → Nat) (lb : Nat) (g : Nat → Int32) (b : Nat → Int32) (lim : Nat) (i : Nat) : List va_W := [[(o, wo 5 (mo ad lb g))], [(ad 11, wI G 600 b)]]
abbrev Q_met_isLetter (G : GX) (o : Nat) (ad : Nat → Nat) (lb : Nat) (g : Nat → Int32) (b : Nat → Int32) (lim : Nat) (i : Nat) (A : Nat → Prop) := wQi' G (fun (r : Int32) (z : Unit) => r = if isLe (bAt b lim i) = true then nI 1 else nI 0) (fun (z : Unit) => ([[(o, wo 5 (mo ad lb g))], [(ad 11, wI G 600 b)]] : List va_W)) A
set_option maxHeartbeats 8000000 in
set_option maxRecDepth 100000 in
theorem met_isLetter (l : Launch) (G : GX) (sz : Nat) (o : Nat) (ad : Nat → Nat) (lb : Nat) (g : Nat → Int32) (b : Nat → Int32) (lim : Nat) (i : Nat) (hlim : g 5 = nI lim) (hl6 : lim ≤ 600) (hi : i ≤ 600) : Met l yX6_isLetter (ws_ yX6_isLetter cX6_isLetter 2 (some .boolean)) ({ frames := 1, cells := 0, slots := 0, locals := 21 }) (va_Pc [.ref o, .int (nI i)] (wPre G (S_met_isLetter G o ad lb g b lim i) sz)) (Q_met_isLetter G o ad lb g b lim i (wA (S_met_isLetter G o ad lb g b lim i) sz)) 0 0 (wA (S_met_isLetter G o ad lb g b lim i) sz) := sorry
abbrev S_met_isDigit (G : GX) (o : Nat) (ad : Nat → Nat) (lb : Nat) (g : Nat → Int32) (b : Nat → Int32) (lim : Nat) (i : Nat) : List va_W := [[(o, wo 5 (mo ad lb g))], [(ad 11, wI G 600 b)]]
abbrev Q_met_isDigit (G : GX) (o : Nat) (ad : Nat → Nat) (lb : Nat) (g : Nat → Int32) (b : Nat → Int32) (lim : Nat) (i : Nat) (A : Nat → Prop) := wQi' G (fun (r : Int32) (z : Unit) => r = if isDi (bAt b lim i) = true then nI 1 else nI 0) (fun (z : Unit) => ([[(o, wo 5 (mo ad lb g))], [(ad 11, wI G 600 b)]] : List va_W)) A
set_option maxHeartbeats 8000000 in
set_option maxRecDepth 100000 in
theorem met_isDigit (l : Launch) (G : GX) (sz : Nat) (o : Nat) (ad : Nat → Nat) (lb : Nat) (g : Nat → Int32) (b : Nat → Int32) (lim : Nat) (i : Nat) (hlim : g 5 = nI lim) (hl6 : lim ≤ 600) (hi : i ≤ 600) : Met l yX6_isDigit (ws_ yX6_isDigit cX6_isDigit 2 (some .boolean)) ({ frames := 1, cells := 0, slots := 0, locals := 21 }) (va_Pc [.ref o, .int (nI i)] (wPre G (S_met_isDigit G o ad lb g b lim i) sz)) (Q_met_isDigit G o ad lb g b lim i (wA (S_met_isDigit G o ad lb g b lim i) sz)) 0 0 (wA (S_met_isDigit G o ad lb g b lim i) sz) := sorry
abbrev S_met_scan (G : GX) (o : Nat) (ad : Nat → Nat) (lb : Nat) (g : Nat → Int32) (p : PS) (b : Nat → Int32) (lim : Nat) : List va_W := [[(o, wo 5 (mo ad lb (gS g p)))], [(ad 11, wI G 600 b)]]
abbrev Q_met_scan (G : GX) (o : Nat) (ad : Nat → Nat) (lb : Nat) (g : Nat → Int32) (p : PS) (b : Nat → Int32) (lim : Nat) (A : Nat → Prop) := wQv' G (fun (z : Unit) => True) (fun (z : Unit) => ([[(o, wo 5 (mo ad lb (gS g (pScan b lim p))))], [(ad 11, wI G 600 b)]] : List va_W)) A
set_option maxHeartbeats 8000000 in
set_option maxRecDepth 100000 in
theorem met_scan (l : Launch) (G : GX) (sz : Nat) (o : Nat) (ad : Nat → Nat) (lb : Nat) (g : Nat → Int32) (p : PS) (b : Nat → Int32) (lim : Nat) (hlim : g 5 = nI lim) (hl6 : lim ≤ 600) (hp : p.nx ≤ lim) : Met l yX6_scan (ws_ yX6_scan cX6_scan 1 none) ({ frames := 2, cells := 0, slots := 0, locals := 42 }) (va_Pc [.ref o] (wPre G (S_met_scan G o ad lb g p b lim) sz)) (Q_met_scan G o ad lb g p b lim (wA (S_met_scan G o ad lb g p b lim) sz)) 0 0 (wA (S_met_scan G o ad lb g p b lim) sz) := sorry
end
section
abbrev S_met_flaw (G : GX) (o : Nat) (ad : Nat → Nat) (lb : Nat) (g : Nat → Int32) (p : PS) (e : Nat) : List va_W := [[(o, wo 5 (mo ad lb (gS g p)))]]
abbrev Q_met_flaw (G : GX) (o : Nat) (ad : Nat → Nat) (lb : Nat) (g : Nat → Int32) (p : PS) (e : Nat) (A : Nat → Prop) := wQv' G (fun (z : Unit) => True) (fun (z : Unit) => ([[(o, wo 5 (mo ad lb (gS g (pFlaw p e))))]] : List va_W)) A
set_option maxHeartbeats 8000000 in
set_option maxRecDepth 100000 in
theorem met_flaw (l : Launch) (G : GX) (sz : Nat) (o : Nat) (ad : Nat → Nat) (lb : Nat) (g : Nat → Int32) (p : PS) (e : Nat) (her : p.er ≤ 3) : Met l yX6_flaw (ws_ yX6_flaw cX6_flaw 2 none) ({ frames := 0, cells := 0, slots := 0, locals := 0 }) (va_Pc [.ref o, .int (nI e)] (wPre G (S_met_flaw G o ad lb g p e) sz)) (Q_met_flaw G o ad lb g p e (wA (S_met_flaw G o ad lb g p e) sz)) 0 0 (wA (S_met_flaw G o ad lb g p e) sz) := sorry
abbrev S_met_check (G : GX) (o : Nat) (ad : Nat → Nat) (lb : Nat) (g : Nat → Int32) (p : PS) (q : Bool) (e : Nat) : List va_W := [[(o, wo 5 (mo ad lb (gS g p)))]]
abbrev Q_met_check (G : GX) (o : Nat) (ad : Nat → Nat) (lb : Nat) (g : Nat → Int32) (p : PS) (q : Bool) (e : Nat) (A : Nat → Prop) := wQv' G (fun (z : Unit) => True) (fun (z : Unit) => ([[(o, wo 5 (mo ad lb (gS g (pCheck p q e))))]] : List va_W)) A
set_option maxHeartbeats 8000000 in
set_option maxRecDepth 100000 in
theorem met_check (l : Launch) (G : GX) (sz : Nat) (o : Nat) (ad : Nat → Nat) (lb : Nat) (g : Nat → Int32) (p : PS) (q : Bool) (e : Nat) (her : p.er ≤ 3) : Met l yX6_check (ws_ yX6_check cX6_check 3 none) ({ frames := 1, cells := 0, slots := 0, locals := 21 }) (va_Pc [.ref o, .int (if q = true then nI 1 else nI 0), .int (nI e)] (wPre G (S_met_check G o ad lb g p q e) sz)) (Q_met_check G o ad lb g p q e (wA (S_met_check G o ad lb g p q e) sz)) 0 0 (wA (S_met_check G o ad lb g p q e) sz) := sorry
abbrev S_met_advance (G : GX) (o : Nat) (ad : Nat → Nat) (lb : Nat) (g : Nat → Int32) (p : PS) (b : Nat → Int32) (lim : Nat) : List va_W := [[(o, wo 5 (mo ad lb (gS g p)))], [(ad 11, wI G 600 b)]]
abbrev Q_met_advance (G : GX) (o : Nat) (ad : Nat → Nat) (lb : Nat) (g : Nat → Int32) (p : PS) (b : Nat → Int32) (lim : Nat) (A : Nat → Prop) := wQv' G (fun (z : Unit) => True) (fun (z : Unit) => ([[(o, wo 5 (mo ad lb (gS g (pAdv b lim p))))], [(ad 11, wI G 600 b)]] : List va_W)) A
set_option maxHeartbeats 8000000 in
set_option maxRecDepth 100000 in
theorem met_advance (l : Launch) (G : GX) (sz : Nat) (o : Nat) (ad : Nat → Nat) (lb : Nat) (g : Nat → Int32) (p : PS) (b : Nat → Int32) (lim : Nat) (hlim : g 5 = nI lim) (hl6 : lim ≤ 600) (hp : p.nx ≤ lim) (her : p.er ≤ 3) : Met l yX6_advance (ws_ yX6_advance cX6_advance 1 none) ({ frames := 3, cells := 0, slots := 0, locals := 62 }) (va_Pc [.ref o] (wPre G (S_met_advance G o ad lb g p b lim) sz)) (Q_met_advance G o ad lb g p b lim (wA (S_met_advance G o ad lb g p b lim) sz)) 0 0 (wA (S_met_advance G o ad lb g p b lim) sz) := sorry
abbrev S_met_finish (G : GX) (o : Nat) (ad : Nat → Nat) (lb : Nat) (g : Nat → Int32) (p : PS) : List va_W := [[(o, wo 5 (mo ad lb (gS g p)))]]
abbrev Q_met_finish (G : GX) (o : Nat) (ad : Nat → Nat) (lb : Nat) (g : Nat → Int32) (p : PS) (A : Nat → Prop) := wQi' G (fun (r : Int32) (z : Unit) => r = nI p.er) (fun (z : Unit) => ([[(o, wo 5 (mo ad lb (upd (upd (gS g p) 4 (nI 0)) 11 (if p.er = 0 then -1 else nI p.ea))))]] : List va_W)) A
set_option maxHeartbeats 8000000 in
set_option maxRecDepth 100000 in
theorem met_finish (l : Launch) (G : GX) (sz : Nat) (o : Nat) (ad : Nat → Nat) (lb : Nat) (g : Nat → Int32) (p : PS) (her : p.er ≤ 3) : Met l yX6_finish (ws_ yX6_finish cX6_finish 1 (some .int)) ({ frames := 0, cells := 0, slots := 0, locals := 0 }) (va_Pc [.ref o] (wPre G (S_met_finish G o ad lb g p) sz)) (Q_met_finish G o ad lb g p (wA (S_met_finish G o ad lb g p) sz)) 0 0 (wA (S_met_finish G o ad lb g p) sz) := sorry
abbrev S_met_startText (G : GX) (o : Nat) (ad : Nat → Nat) (lb : Nat) (g : Nat → Int32) (p : PS) (b : Nat → Int32) (lim : Nat) : List va_W := [[(o, wo 5 (mo ad lb (gS g p)))], [(ad 11, wI G 600 b)]]
abbrev Q_met_startText (G : GX) (o : Nat) (ad : Nat → Nat) (lb : Nat) (g : Nat → Int32) (p : PS) (b : Nat → Int32) (lim : Nat) (A : Nat → Prop) := wQv' G (fun (z : Unit) => True) (fun (z : Unit) => ([[(o, wo 5 (mo ad lb (gS (upd g 5 (nI lim)) (pScan b lim (0, p.bg, p.tk, 0, p.ea, 0)))))], [(ad 11, wI G 600 b)]] : List va_W)) A
set_option maxHeartbeats 8000000 in
set_option maxRecDepth 100000 in
theorem met_startText (l : Launch) (G : GX) (sz : Nat) (o : Nat) (ad : Nat → Nat) (lb : Nat) (g : Nat → Int32) (p : PS) (b : Nat → Int32) (lim : Nat) (hl6 : lim ≤ 600) : Met l yX6_startText (ws_ yX6_startText cX6_startText 2 none) ({ frames := 3, cells := 0, slots := 0, locals := 62 }) (va_Pc [.ref o, .int (nI lim)] (wPre G (S_met_startText G o ad lb g p b lim) sz)) (Q_met_startText G o ad lb g p b lim (wA (S_met_startText G o ad lb g p b lim) sz)) 0 0 (wA (S_met_startText G o ad lb g p b lim) sz) := sorry
abbrev S_met_isSymbol (G : GX) (o : Nat) (ad : Nat → Nat) (lb : Nat) (g : Nat → Int32) (p : PS) (b : Nat → Int32) (lim : Nat) (x : Int32) : List va_W := [[(o, wo 5 (mo ad lb (gS g p)))], [(ad 11, wI G 600 b)]]
abbrev Q_met_isSymbol (G : GX) (o : Nat) (ad : Nat → Nat) (lb : Nat) (g : Nat → Int32) (p : PS) (b : Nat → Int32) (lim : Nat) (x : Int32) (A : Nat → Prop) := wQi' G (fun (r : Int32) (z : Unit) => r = if bSym b p x = true then nI 1 else nI 0) (fun (z : Unit) => ([[(o, wo 5 (mo ad lb (gS g p)))], [(ad 11, wI G 600 b)]] : List va_W)) A
set_option maxHeartbeats 8000000 in
set_option maxRecDepth 100000 in
theorem met_isSymbol (l : Launch) (G : GX) (sz : Nat) (o : Nat) (ad : Nat → Nat) (lb : Nat) (g : Nat → Int32) (p : PS) (b : Nat → Int32) (lim : Nat) (x : Int32) (hl6 : lim ≤ 600) (hp : PSok lim p) : Met l yX6_isSymbol (ws_ yX6_isSymbol cX6_isSymbol 2 (some .boolean)) ({ frames := 0, cells := 0, slots := 0, locals := 0 }) (va_Pc [.ref o, .int x] (wPre G (S_met_isSymbol G o ad lb g p b lim x) sz)) (Q_met_isSymbol G o ad lb g p b lim x (wA (S_met_isSymbol G o ad lb g p b lim x) sz)) 0 0 (wA (S_met_isSymbol G o ad lb g p b lim x) sz) := sorry
abbrev S_met_value_2 (G : GX) (o : Nat) (ad : Nat → Nat) (lb : Nat) (g : Nat → Int32) (p : PS) (b : Nat → Int32) (lim : Nat) : List va_W := [[(o, wo 5 (mo ad lb (gS g p)))], [(ad 11, wI G 600 b)]]
abbrev Q_met_value_2 (G : GX) (o : Nat) (ad : Nat → Nat) (lb : Nat) (g : Nat → Int32) (p : PS) (b : Nat → Int32) (lim : Nat) (A : Nat → Prop) := wQi' G (fun (r : Int32) (z : Unit) => r = pVal b p) (fun (z : Unit) => ([[(o, wo 5 (mo ad lb (gS g p)))], [(ad 11, wI G 600 b)]] : List va_W)) A
set_option maxHeartbeats 8000000 in
set_option maxRecDepth 100000 in
theorem met_value_2 (l : Launch) (G : GX) (sz : Nat) (o : Nat) (ad : Nat → Nat) (lb : Nat) (g : Nat → Int32) (p : PS) (b : Nat → Int32) (lim : Nat) (hl6 : lim ≤ 600) (hp : PSok lim p) : Met l yX6_value_2 (ws_ yX6_value_2 cX6_value_2 3 (some .int)) ({ frames := 1, cells := 0, slots := 0, locals := 40 }) (va_Pc [.ref o] (wPre G (S_met_value_2 G o ad lb g p b lim) sz)) (Q_met_value_2 G o ad lb g p b lim (wA (S_met_value_2 G o ad lb g p b lim) sz)) 0 0 (wA (S_met_value_2 G o ad lb g p b lim) sz) := sorry
abbrev S_met_number (G : GX) (o : Nat) (ad : Nat → Nat) (lb : Nat) (g : Nat → Int32) (p : PS) (b : Nat → Int32) (lim : Nat) (lo : Int32) (hi : Int32) : List va_W := [[(o, wo 5 (mo ad lb (gS g p)))], [(ad 11, wI G 600 b)]]
abbrev Q_met_number (G : GX) (o : Nat) (ad : Nat → Nat) (lb : Nat) (g : Nat → Int32) (p : PS) (b : Nat → Int32) (lim : Nat) (lo : Int32) (hi : Int32) (A : Nat → Prop) := wQi' G (fun (r : Int32) (z : Unit) => r = pNumV b lim p lo hi) (fun (z : Unit) => ([[(o, wo 5 (mo ad lb (gS g (pNum b lim p lo hi))))], [(ad 11, wI G 600 b)]] : List va_W)) A
set_option maxHeartbeats 8000000 in
set_option maxRecDepth 100000 in
theorem met_number (l : Launch) (G : GX) (sz : Nat) (o : Nat) (ad : Nat → Nat) (lb : Nat) (g : Nat → Int32) (p : PS) (b : Nat → Int32) (lim : Nat) (lo : Int32) (hi : Int32) (hlim : g 5 = nI lim) (hl6 : lim ≤ 600) (hp : PSok lim p) : Met l yX6_number (ws_ yX6_number cX6_number 4 (some .int)) ({ frames := 4, cells := 0, slots := 0, locals := 82 }) (va_Pc [.ref o, .int lo, .int hi] (wPre G (S_met_number G o ad lb g p b lim lo hi) sz)) (Q_met_number G o ad lb g p b lim lo hi (wA (S_met_number G o ad lb g p b lim lo hi) sz)) 0 0 (wA (S_met_number G o ad lb g p b lim lo hi) sz) := sorry
end
section
/-! the literals: the i-th has the address cs (100 + 2 i), its bytes cs (101 + 2 i) -/
def nZ : Nat := 47
def zWs : List (List Int32) := [[58, 32], [32, 62, 32], [110, 117, 109, 98, 101, 114], [115, 105, 122, 101], [112, 111, 115, 105, 116, 105, 118, 101], [98, 111, 117, 110, 100], [108, 111, 99, 107, 101, 100], [], [102, 114, 111, 109, 73, 110, 100, 101, 120, 40], [41, 32, 62, 32, 116, 111, 73, 110, 100, 101, 120, 40], [41], [111, 114, 100, 101, 114], [], [117, 110, 114, 101, 99, 111, 103, 110, 105, 122, 101, 100, 32, 98, 97, 115, 105, 99, 32, 116, 121, 112, 101, 58, 32], [101, 110, 116, 114, 121], [115, 116, 97, 114, 116], [109, 111, 100, 101], [116, 104, 114, 101, 115, 104, 111, 108, 100], [116, 111, 108, 101, 114, 97, 110, 99, 101], [110, 111, 110, 101], [115, 101, 108, 101, 99, 116, 105, 118, 101], [102, 117, 108, 108], [32, 43, 45], [102, 105, 114, 115, 116], [109, 97, 110, 121], [110, 111, 116], [97, 110, 100], [111, 114], [110, 117, 109, 98, 101, 114], [115, 105, 122, 101], [112, 111, 115, 105, 116, 105, 118, 101], [98, 111, 117, 110, 100], [108, 111, 99, 107, 101, 100], [111, 114, 100, 101, 114], [101, 110, 116, 114, 121], [115, 116, 97, 114, 116], [109, 111, 100, 101], [110, 111, 110, 101], [115, 101, 108, 101, 99, 116, 105, 118, 101], [102, 117, 108, 108], [116, 104, 114, 101, 115, 104, 111, 108, 100], [116, 111, 108, 101, 114, 97, 110, 99, 101], [102, 105, 114, 115, 116], [109, 97, 110, 121], [110, 111, 116], [97, 110, 100], [111, 114]]
def zW (i : Nat) : List Int32 := zWs.getD i []
def zHs : List Int32 := [(1830), (32706), (-1034364087), (3530753), (747805177), (93927806), (-1097452790), (0), (1865747936), (252444138), (41), (106006350), (0), (-414256221), (96667762), (109757538), (3357091), (-1545477013), (1033072653), (3387192), (-1715965348), (3154575), (32130), (97440432), (3343967), (109267), (96727), (3555), (-1034364087), (3530753), (747805177), (93927806), (-1097452790), (106006350), (96667762), (109757538), (3357091), (3387192), (-1715965348), (3154575), (-1545477013), (1033072653), (97440432), (3343967), (109267), (96727), (3555)]
def zHz : List Int32 := [(0), (0), (0), (0), (0), (0), (0), (1), (0), (0), (0), (0), (1), (0), (0), (0), (0), (0), (0), (0), (0), (0), (0), (0), (0), (0), (0), (0), (0), (0), (0), (0), (0), (0), (0), (0), (0), (0), (0), (0), (0), (0), (0), (0), (0), (0), (0)]
set_option maxRecDepth 100000 in
theorem zF_eq (cs : Nat → Nat) : zF cs = (List.range nZ).flatMap (fun i => [("java/lang/String", "coder", "B", .int 0, cs (100 + 2 * i)), ("java/lang/String", "value", "[B", .ref (cs (101 + 2 * i)), cs (100 + 2 * i)), ("java/lang/String", "hash", "I", .int (zHs.getD i 0), cs (100 + 2 * i)), ("java/lang/String", "hashIsZero", "Z", .int (zHz.getD i 0), cs (100 + 2 * i))]) := rfl
set_option maxRecDepth 100000 in
theorem zT_eq (cs : Nat → Nat) : (zT cs).drop 3 = (List.range nZ).map (fun i => (.byte, cs (101 + 2 * i), (zW i).length, fun j => .int ((zW i).getD j 0))) := sorry
set_option maxRecDepth 100000 in
theorem zO_eq (cs : Nat → Nat) : (zO cs).drop 5 = (List.range nZ).map (fun i => ("java/lang/String", cs (100 + 2 * i))) := sorry
theorem sl_F {cs : Nat → Nat} {A : Nat → Prop} {U : State} {H : Heap} (h : ZW cs A U H) {i : Nat} (hi : i < nZ) : va_OF "java/lang/String" "coder" "B" (.int 0) (cs (100 + 2 * i)) A U H ∧ va_OF "java/lang/String" "value" "[B" (.ref (cs (101 + 2 * i))) (cs (100 + 2 * i)) A U H ∧ va_OF "java/lang/String" "hash" "I" (.int (zHs.getD i 0)) (cs (100 + 2 * i)) A U H ∧ va_OF "java/lang/String" "hashIsZero" "Z" (.int (zHz.getD i 0)) (cs (100 + 2 * i)) A U H := by
  have hF := h.2.2.1
  rw [zF_eq] at hF
  have hm : ∀ z, z ∈ [("java/lang/String", "coder", "B", Value.int 0, cs (100 + 2 * i)), ("java/lang/String", "value", "[B", .ref (cs (101 + 2 * i)), cs (100 + 2 * i)), ("java/lang/String", "hash", "I", .int (zHs.getD i 0), cs (100 + 2 * i)), ("java/lang/String", "hashIsZero", "Z", .int (zHz.getD i 0), cs (100 + 2 * i))] → va_OF z.1 z.2.1 z.2.2.1 z.2.2.2.1 z.2.2.2.2 A U H := fun z hz => hF z (List.mem_flatMap.mpr ⟨i, List.mem_range.mpr hi, hz⟩)
  exact ⟨hm _ (List.mem_cons_self ..), hm _ (List.mem_cons_of_mem _ (List.mem_cons_self ..)), hm _ (List.mem_cons_of_mem _ (List.mem_cons_of_mem _ (List.mem_cons_self ..))), hm _ (List.mem_cons_of_mem _ (List.mem_cons_of_mem _ (List.mem_cons_of_mem _ (List.mem_cons_self ..))))⟩
theorem sl_T {cs : Nat → Nat} {A : Nat → Prop} {U : State} {H : Heap} (h : ZW cs A U H) {i : Nat} (hi : i < nZ) : va_T .byte (cs (101 + 2 * i)) (zW i).length (fun j => .int ((zW i).getD j 0)) A U H := sorry
theorem sl_O {cs : Nat → Nat} {A : Nat → Prop} {U : State} {H : Heap} (h : ZW cs A U H) {i : Nat} (hi : i < nZ) : va_O "java/lang/String" (cs (100 + 2 * i)) A U H := sorry
theorem zW_byte : ∀ i, i < nZ → ((zW i).length < 2 ^ 31 ∧ ∀ b ∈ zW i, 0 ≤ b ∧ b < 128) := sorry
theorem wx_preO {s : State} {G : GX} {A0 : Nat → Prop} {S Sc : List va_W} {H : Heap} {locs : List Loc} {As : List Value} {b : Nat} {C : String} (hC : CX G A0 s s.heap) (hS : va_S A0 s.heap H locs) (hP : wP G.1 vwCl S H) (hD : wD A0 S) (hA : ∀ q, s.heap.size ≤ q → A0 q) (isC : List Nat) (hn : va_nd isC = true) (hc : isC.map (fun i => S[i]?) = Sc.map some) (hO : va_O C b A0 s s.heap) : PreV s H C b (va_Pc (.ref b :: As) (wPre G Sc H.size)) As := sorry
theorem ch_all : ∀ j, j < 128 → (nI j &&& 255 = nI j ∧ ((nI j).toUInt32 % 65536).toInt32 = nI j ∧ narrow .char (.int (nI j)) = .int (nI j)) := sorry
theorem ch_at {i k : Nat} (hi : i < nZ) (hk : k < (zW i).length) : ∃ j, j < 128 ∧ (zW i).getD k 0 = nI j := sorry
theorem ch_and {i k : Nat} (hi : i < nZ) (hk : k < (zW i).length) : (zW i).getD k 0 &&& 255 = (zW i).getD k 0 := sorry
theorem ch_i2c {i k : Nat} (hi : i < nZ) (hk : k < (zW i).length) : (((zW i).getD k 0).toUInt32 % 65536).toInt32 = (zW i).getD k 0 := sorry
theorem ch_nar {i k : Nat} (hi : i < nZ) (hk : k < (zW i).length) : narrow .char (.int ((zW i).getD k 0)) = .int ((zW i).getD k 0) := sorry
theorem sh_0 {n : Nat} (h : n < 2 ^ 31) : nI n >>> (nI 0 &&& 31) = nI n := sorry
theorem sl_Q {cs : Nat → Nat} {A : Nat → Prop} {U : State} {H : Heap} (h : ZW cs A U H) : va_Z "jdk/internal/util/Preconditions" "SIOOBE_FORMATTER" "Ljava/util/function/BiFunction;" .null A U H ∨ ∃ t : Nat, va_Z "jdk/internal/util/Preconditions" "SIOOBE_FORMATTER" "Ljava/util/function/BiFunction;" (.ref t) A U H := sorry
theorem ww_nret {σ : Type} {post : Int32 → σ → Prop} {S1 : σ → List va_W} {v : Int32} {mc ms : Nat} {ty : FieldType} {p : Program} {l : Launch} {e : Env} {R : Room} {s : State} {m : MethodId} {args : Array Value} {below : List Frame} {meth : Method} {c : Code} {H : Heap} {locs : List Loc} {cells slots : Nat} {cc : ByteArray} {pc : Nat} {ls : Array Slot} {G : GX} {A : Nat → Prop} (u : σ) (hexec : p.tables.exec = Jvm.exec) (hb : c.code = cc) (hr : meth.sig.returnType = some ty) (hlocks : meth.locks = false) (hP : wP G.1 vwCl (S1 u) H) (hD : wD A (S1 u)) (hS : va_S A s.heap H locs) (h1 : cells ≤ mc) (h2 : slots ≤ ms) (hdg : decode cc pc = .ok (.ireturn, 1)) (hv : narrow ty (.int v) = .int v) (hp : post v u) : W p l e R s m args below meth c H locs cells slots (MQ below (wQi' G post S1 A) args s mc ms A) (F0 m pc ls [.int v]) := sorry
theorem va_ldcwS {p : Program} {l : Launch} {e : Env} {R : Room} {s : State} {m : MethodId} {args : Array Value} {below : List Frame} {meth : Method} {c : Code} {H : Heap} {locs : List Loc} {cells slots : Nat} {Q : State → Prop} {cc : ByteArray} {pc : Nat} {ls : Array Slot} {rest : List Value} (hexec : p.tables.exec = Jvm.exec) (hb : c.code = cc) {own tx : String} {index q : Nat} (hown : s.vm.findClass own = some m.cls) (hZ : vk_R own index tx q s) (hdg : decode cc pc = .ok (.ldc_w index, 3)) (k : W p l e R s m args below meth c H locs cells slots Q (F0 m (pc + 3) ls (.ref q :: rest))) : W p l e R s m args below meth c H locs cells slots Q (F0 m pc ls rest) := sorry
end
section
abbrev S_met_coderL (G : GX) (i : Nat) : List va_W := []
abbrev Q_met_coderL (G : GX) (i : Nat) (A : Nat → Prop) := wQi' G (fun (r : Int32) (z : Unit) => r = nI 0) (fun (z : Unit) => ([] : List va_W)) A
set_option maxHeartbeats 8000000 in
set_option maxRecDepth 100000 in
theorem met_coderL (l : Launch) (G : GX) (sz : Nat) (i : Nat) (hz_i : i < nZ) : Met l yJ16_coder (ws_ yJ16_coder cJ16_coder 1 (some .byte)) ({ frames := 0, cells := 0, slots := 0, locals := 0 }) (va_Pc [.ref (G.2.2 (100 + 2 * i))] (wPre G (S_met_coderL G i) sz)) (Q_met_coderL G i (wA (S_met_coderL G i) sz)) 0 0 (wA (S_met_coderL G i) sz) := sorry
abbrev S_met_isLatin1L (G : GX) (i : Nat) : List va_W := []
abbrev Q_met_isLatin1L (G : GX) (i : Nat) (A : Nat → Prop) := wQi' G (fun (r : Int32) (z : Unit) => r = nI 1) (fun (z : Unit) => ([] : List va_W)) A
set_option maxHeartbeats 8000000 in
set_option maxRecDepth 100000 in
theorem met_isLatin1L (l : Launch) (G : GX) (sz : Nat) (i : Nat) (hz_i : i < nZ) : Met l yJ16_isLatin1 (ws_ yJ16_isLatin1 cJ16_isLatin1 1 (some .boolean)) ({ frames := 0, cells := 0, slots := 0, locals := 0 }) (va_Pc [.ref (G.2.2 (100 + 2 * i))] (wPre G (S_met_isLatin1L G i) sz)) (Q_met_isLatin1L G i (wA (S_met_isLatin1L G i) sz)) 0 0 (wA (S_met_isLatin1L G i) sz) := sorry
abbrev S_met_lengthL (G : GX) (i : Nat) : List va_W := []
abbrev Q_met_lengthL (G : GX) (i : Nat) (A : Nat → Prop) := wQi' G (fun (r : Int32) (z : Unit) => r = nI (zW i).length) (fun (z : Unit) => ([] : List va_W)) A
set_option maxHeartbeats 8000000 in
set_option maxRecDepth 100000 in
theorem met_lengthL (l : Launch) (G : GX) (sz : Nat) (i : Nat) (hz_i : i < nZ) : Met l yJ16_length (ws_ yJ16_length cJ16_length 1 (some .int)) ({ frames := 1, cells := 0, slots := 0, locals := 20 }) (va_Pc [.ref (G.2.2 (100 + 2 * i))] (wPre G (S_met_lengthL G i) sz)) (Q_met_lengthL G i (wA (S_met_lengthL G i) sz)) 0 0 (wA (S_met_lengthL G i) sz) := sorry
abbrev S_met_pcheckN (G : GX) (a : Nat) (n : Nat) : List va_W := []
abbrev Q_met_pcheckN (G : GX) (a : Nat) (n : Nat) (A : Nat → Prop) := wQi' G (fun (r : Int32) (z : Unit) => r = nI a) (fun (z : Unit) => ([] : List va_W)) A
set_option maxHeartbeats 8000000 in
set_option maxRecDepth 100000 in
theorem met_pcheckN (l : Launch) (G : GX) (sz : Nat) (a : Nat) (n : Nat) (ha : a < n) (hn31 : n < 2 ^ 31) : Met l yJ9_checkIndex (ws_ yJ9_checkIndex cJ9_checkIndex 3 (some .int)) ({ frames := 0, cells := 0, slots := 0, locals := 0 }) (va_Pc [.int (nI a), .int (nI n), .null] (wPre G (S_met_pcheckN G a n) sz)) (Q_met_pcheckN G a n (wA (S_met_pcheckN G a n) sz)) 0 0 (wA (S_met_pcheckN G a n) sz) := sorry
abbrev S_met_pcheckR (G : GX) (a : Nat) (n : Nat) (z : Nat) : List va_W := []
abbrev Q_met_pcheckR (G : GX) (a : Nat) (n : Nat) (z : Nat) (A : Nat → Prop) := wQi' G (fun (r : Int32) (z : Unit) => r = nI a) (fun (z : Unit) => ([] : List va_W)) A
set_option maxHeartbeats 8000000 in
set_option maxRecDepth 100000 in
theorem met_pcheckR (l : Launch) (G : GX) (sz : Nat) (a : Nat) (n : Nat) (z : Nat) (ha : a < n) (hn31 : n < 2 ^ 31) : Met l yJ9_checkIndex (ws_ yJ9_checkIndex cJ9_checkIndex 3 (some .int)) ({ frames := 0, cells := 0, slots := 0, locals := 0 }) (va_Pc [.int (nI a), .int (nI n), .ref z] (wPre G (S_met_pcheckR G a n z) sz)) (Q_met_pcheckR G a n z (wA (S_met_pcheckR G a n z) sz)) 0 0 (wA (S_met_pcheckR G a n z) sz) := sorry
abbrev S_met_checkIndex (G : GX) (a : Nat) (n : Nat) : List va_W := []
abbrev Q_met_checkIndex (G : GX) (a : Nat) (n : Nat) (A : Nat → Prop) := wQv' G (fun (z : Unit) => True) (fun (z : Unit) => ([] : List va_W)) A
set_option maxHeartbeats 8000000 in
set_option maxRecDepth 100000 in
theorem met_checkIndex (l : Launch) (G : GX) (sz : Nat) (a : Nat) (n : Nat) (ha : a < n) (hn31 : n < 2 ^ 31) : Met l yJ16_checkIndex (ws_ yJ16_checkIndex cJ16_checkIndex 2 none) ({ frames := 1, cells := 0, slots := 0, locals := 22 }) (va_Pc [.int (nI a), .int (nI n)] (wPre G (S_met_checkIndex G a n) sz)) (Q_met_checkIndex G a n (wA (S_met_checkIndex G a n) sz)) 0 0 (wA (S_met_checkIndex G a n) sz) := sorry
abbrev S_met_lcharL (G : GX) (i : Nat) (k : Nat) : List va_W := []
abbrev Q_met_lcharL (G : GX) (i : Nat) (k : Nat) (A : Nat → Prop) := wQi' G (fun (r : Int32) (z : Unit) => r = (zW i).getD k 0) (fun (z : Unit) => ([] : List va_W)) A
set_option maxHeartbeats 8000000 in
set_option maxRecDepth 100000 in
theorem met_lcharL (l : Launch) (G : GX) (sz : Nat) (i : Nat) (k : Nat) (hz_i : i < nZ) (hk : k < (zW i).length) : Met l yJ21_charAt (ws_ yJ21_charAt cJ21_charAt 2 (some .char)) ({ frames := 2, cells := 0, slots := 0, locals := 43 }) (va_Pc [.ref (G.2.2 (101 + 2 * i)), .int (nI k)] (wPre G (S_met_lcharL G i k) sz)) (Q_met_lcharL G i k (wA (S_met_lcharL G i k) sz)) 0 0 (wA (S_met_lcharL G i k) sz) := sorry
abbrev S_met_charAtL (G : GX) (i : Nat) (k : Nat) : List va_W := []
abbrev Q_met_charAtL (G : GX) (i : Nat) (k : Nat) (A : Nat → Prop) := wQi' G (fun (r : Int32) (z : Unit) => r = (zW i).getD k 0) (fun (z : Unit) => ([] : List va_W)) A
set_option maxHeartbeats 8000000 in
set_option maxRecDepth 100000 in
theorem met_charAtL (l : Launch) (G : GX) (sz : Nat) (i : Nat) (k : Nat) (hz_i : i < nZ) (hk : k < (zW i).length) : Met l yJ16_charAt (ws_ yJ16_charAt cJ16_charAt 2 (some .char)) ({ frames := 3, cells := 0, slots := 0, locals := 64 }) (va_Pc [.ref (G.2.2 (100 + 2 * i)), .int (nI k)] (wPre G (S_met_charAtL G i k) sz)) (Q_met_charAtL G i k (wA (S_met_charAtL G i k) sz)) 0 0 (wA (S_met_charAtL G i k) sz) := sorry
end
section
theorem bW_1 {b : Nat → Int32} {p : PS} {w : List Int32} (h : ¬ p.er = 0) : ¬ bWord b p w = true := sorry
theorem bW_2 {b : Nat → Int32} {p : PS} {w : List Int32} (h : ¬ p.tk = 1) : ¬ bWord b p w = true := sorry
theorem bW_3 {b : Nat → Int32} {p : PS} {w : List Int32} (h : ¬ w.length = p.nx - p.bg) : ¬ bWord b p w = true := sorry
theorem bW_4 {b : Nat → Int32} {p : PS} {w : List Int32} {k : Nat} (hk : k < w.length) (h : ¬ w.getD k 0 = b (p.bg + k)) : ¬ bWord b p w = true := sorry
theorem bW_t {b : Nat → Int32} {p : PS} {w : List Int32} (h1 : p.er = 0) (h2 : p.tk = 1) (h3 : w.length = p.nx - p.bg) (h4 : ∀ k, k < w.length → w.getD k 0 = b (p.bg + k)) : bWord b p w = true := sorry
abbrev S_met_isWord (G : GX) (o : Nat) (ad : Nat → Nat) (lb : Nat) (g : Nat → Int32) (p : PS) (b : Nat → Int32) (lim : Nat) (i : Nat) : List va_W := [[(o, wo 5 (mo ad lb (gS g p)))], [(ad 11, wI G 600 b)]]
abbrev Q_met_isWord (G : GX) (o : Nat) (ad : Nat → Nat) (lb : Nat) (g : Nat → Int32) (p : PS) (b : Nat → Int32) (lim : Nat) (i : Nat) (A : Nat → Prop) := wQi' G (fun (r : Int32) (z : Unit) => r = if bWord b p (zW i) = true then nI 1 else nI 0) (fun (z : Unit) => ([[(o, wo 5 (mo ad lb (gS g p)))], [(ad 11, wI G 600 b)]] : List va_W)) A
set_option maxHeartbeats 8000000 in
set_option maxRecDepth 100000 in
theorem met_isWord (l : Launch) (G : GX) (sz : Nat) (o : Nat) (ad : Nat → Nat) (lb : Nat) (g : Nat → Int32) (p : PS) (b : Nat → Int32) (lim : Nat) (i : Nat) (hl6 : lim ≤ 600) (hp : PSok lim p) (hz_i : i < nZ) : Met l yX6_isWord (ws_ yX6_isWord cX6_isWord 4 (some .boolean)) ({ frames := 4, cells := 0, slots := 0, locals := 85 }) (va_Pc [.ref o, .ref (G.2.2 (100 + 2 * i))] (wPre G (S_met_isWord G o ad lb g p b lim i) sz)) (Q_met_isWord G o ad lb g p b lim i (wA (S_met_isWord G o ad lb g p b lim i) sz)) 0 0 (wA (S_met_isWord G o ad lb g p b lim i) sz) := sorry
end
section
/-! reading, as functions of what was read -/
def pAcc (b : Nat → Int32) (lim : Nat) (p : PS) (w : List Int32) : PS := if bWord b p w = true then pScan b lim p else p
def pExW (b : Nat → Int32) (lim : Nat) (p : PS) (w : List Int32) : PS := pAdv b lim (pCheck p (bWord b p w) 1)
def pExS (b : Nat → Int32) (lim : Nat) (p : PS) (c : Int32) : PS := pAdv b lim (pCheck p (bSym b p c) 1)
def pInt0 (b : Nat → Int32) (lim : Nat) (p : PS) : PS := if bSym b p (nI 45) = true then pAdv b lim p else p
def pInt (b : Nat → Int32) (lim : Nat) (p : PS) : PS := pNum b lim (pInt0 b lim p) (nI 0) (nI 99)
def pIntV (b : Nat → Int32) (lim : Nat) (p : PS) : Int32 := if bSym b p (nI 45) = true then -(pNumV b lim (pInt0 b lim p) (nI 0) (nI 99)) else pNumV b lim (pInt0 b lim p) (nI 0) (nI 99)
theorem bSym_er {b : Nat → Int32} {p : PS} {c : Int32} (h : bSym b p c = true) : p.er = 0 := sorry
theorem bWord_er {b : Nat → Int32} {p : PS} {w : List Int32} (h : bWord b p w = true) : p.er = 0 := sorry
theorem bWord_tk {b : Nat → Int32} {p : PS} {w : List Int32} (h : bWord b p w = true) : p.tk = 1 := sorry
theorem pAcc_t {b : Nat → Int32} {lim : Nat} {p : PS} {w : List Int32} (h : bWord b p w = true) : pAcc b lim p w = pScan b lim p := sorry
theorem pAcc_f {b : Nat → Int32} {lim : Nat} {p : PS} {w : List Int32} (h : ¬ bWord b p w = true) : pAcc b lim p w = p := sorry
theorem pScan_ok' {b : Nat → Int32} {lim : Nat} {p : PS} (h : PSok lim p) : PSok lim (pScan b lim p) := sorry
theorem pAcc_ok {b : Nat → Int32} {lim : Nat} {p : PS} {w : List Int32} (h : PSok lim p) : PSok lim (pAcc b lim p w) := sorry
theorem pExW_ok {b : Nat → Int32} {lim : Nat} {p : PS} {w : List Int32} (hl : lim ≤ 600) (h : PSok lim p) : PSok lim (pExW b lim p w) := sorry
theorem pExS_ok {b : Nat → Int32} {lim : Nat} {p : PS} {c : Int32} (hl : lim ≤ 600) (h : PSok lim p) : PSok lim (pExS b lim p c) := sorry
theorem pInt0_ok {b : Nat → Int32} {lim : Nat} {p : PS} (h : PSok lim p) : PSok lim (pInt0 b lim p) := sorry
theorem pInt_ok {b : Nat → Int32} {lim : Nat} {p : PS} (hl : lim ≤ 600) (h : PSok lim p) : PSok lim (pInt b lim p) := sorry
theorem pScan_er {b : Nat → Int32} {lim : Nat} {p : PS} : (pScan b lim p).er = p.er := sorry
theorem pScan_ea {b : Nat → Int32} {lim : Nat} {p : PS} : (pScan b lim p).ea = p.ea := sorry
theorem pScan_ns {b : Nat → Int32} {lim : Nat} {p : PS} : (pScan b lim p).ns = p.ns := sorry
theorem pAdv_er {b : Nat → Int32} {lim : Nat} {p : PS} : (pAdv b lim p).er = p.er := sorry
theorem pAdv_ea {b : Nat → Int32} {lim : Nat} {p : PS} : (pAdv b lim p).ea = p.ea := sorry
theorem pAdv_ns {b : Nat → Int32} {lim : Nat} {p : PS} : (pAdv b lim p).ns = p.ns := sorry
theorem pFlaw_ns {p : PS} {e : Nat} : (pFlaw p e).ns = p.ns := sorry
theorem pCheck_ns {p : PS} {c : Bool} {e : Nat} : (pCheck p c e).ns = p.ns := sorry
theorem pNum_ns {b : Nat → Int32} {lim : Nat} {p : PS} {lo hi : Int32} : (pNum b lim p lo hi).ns = p.ns := sorry
theorem pAcc_ns {b : Nat → Int32} {lim : Nat} {p : PS} {w : List Int32} : (pAcc b lim p w).ns = p.ns := sorry
theorem pExS_ns {b : Nat → Int32} {lim : Nat} {p : PS} {c : Int32} : (pExS b lim p c).ns = p.ns := sorry
/-- what is left to read: falls at each token; an error stays -/
def pMu (lim : Nat) (p : PS) : Nat := (lim - p.nx) + (if p.tk = 0 then 0 else 1)
def pGo (lim : Nat) (p q : PS) : Prop := (¬ p.er = 0 → q.er = p.er ∧ q.ea = p.ea) ∧ (q.er = 0 → pMu lim q ≤ pMu lim p ∧ p.bg ≤ q.bg)
theorem pGo.rf {lim : Nat} {p : PS} : pGo lim p p := sorry
theorem pGo.er {lim : Nat} {p q : PS} (h : pGo lim p q) (hq : q.er = 0) : p.er = 0 := sorry
theorem pGo.tr {lim : Nat} {p q r : PS} (h : pGo lim p q) (h2 : pGo lim q r) : pGo lim p r := sorry
theorem pScan_as {b : Nat → Int32} {lim : Nat} {p : PS} (h : p.nx ≤ lim) : ∃ n a t, pScan b lim p = pTok p n a t ∧ p.nx ≤ a ∧ a ≤ n ∧ n ≤ lim ∧ (¬ t = 0 → a < n) := sorry
theorem pScan_mu {b : Nat → Int32} {lim : Nat} {p : PS} (h : PSok lim p) : pMu lim (pScan b lim p) ≤ pMu lim p ∧ p.nx ≤ (pScan b lim p).bg ∧ (¬ p.tk = 0 → pMu lim (pScan b lim p) < pMu lim p) := sorry
theorem pScan_go {b : Nat → Int32} {lim : Nat} {p : PS} (h : PSok lim p) : pGo lim p (pScan b lim p) := sorry
theorem pAdv_go {b : Nat → Int32} {lim : Nat} {p : PS} (h : PSok lim p) : pGo lim p (pAdv b lim p) := sorry
theorem pFlaw_go {lim : Nat} {p : PS} {e : Nat} (he : e ≠ 0) : pGo lim p (pFlaw p e) := sorry
theorem pCheck_go {lim : Nat} {p : PS} {c : Bool} {e : Nat} (he : e ≠ 0) : pGo lim p (pCheck p c e) := sorry
theorem pCheck_0 {p : PS} {c : Bool} {e : Nat} (he : e ≠ 0) (h : (pCheck p c e).er = 0) : c = true ∧ pCheck p c e = p := sorry
theorem pAcc_go {b : Nat → Int32} {lim : Nat} {p : PS} {w : List Int32} (h : PSok lim p) : pGo lim p (pAcc b lim p w) := sorry
theorem pExW_go {b : Nat → Int32} {lim : Nat} {p : PS} {w : List Int32} (hl : lim ≤ 600) (h : PSok lim p) : pGo lim p (pExW b lim p w) := sorry
theorem pExS_go {b : Nat → Int32} {lim : Nat} {p : PS} {c : Int32} (hl : lim ≤ 600) (h : PSok lim p) : pGo lim p (pExS b lim p c) := sorry
theorem pNum_go {b : Nat → Int32} {lim : Nat} {p : PS} {lo hi : Int32} (hl : lim ≤ 600) (h : PSok lim p) : pGo lim p (pNum b lim p lo hi) := sorry
theorem pInt0_go {b : Nat → Int32} {lim : Nat} {p : PS} (h : PSok lim p) : pGo lim p (pInt0 b lim p) := sorry
theorem pInt_go {b : Nat → Int32} {lim : Nat} {p : PS} (hl : lim ≤ 600) (h : PSok lim p) : pGo lim p (pInt b lim p) := sorry
/-- strictly: a token was consumed, or an error stands -/
def pLt (lim : Nat) (p q : PS) : Prop := q.er = 0 → pMu lim q < pMu lim p ∧ p.nx ≤ q.bg
theorem pLt.tr {lim : Nat} {p q r : PS} (h : pLt lim p q) (h2 : pGo lim q r) : pLt lim p r := sorry
theorem pScan_lt {b : Nat → Int32} {lim : Nat} {p : PS} (h : PSok lim p) (ht : ¬ p.tk = 0) : pLt lim p (pScan b lim p) := sorry
theorem pAdv_lt {b : Nat → Int32} {lim : Nat} {p : PS} (h : PSok lim p) (ht : p.er = 0 → ¬ p.tk = 0) : pLt lim p (pAdv b lim p) := sorry
theorem pExW_lt {b : Nat → Int32} {lim : Nat} {p : PS} {w : List Int32} (h : PSok lim p) : pLt lim p (pExW b lim p w) := sorry
theorem pExS_lt {b : Nat → Int32} {lim : Nat} {p : PS} {c : Int32} (h : PSok lim p) : pLt lim p (pExS b lim p c) := sorry
/-- a number read is in its range -/
theorem pNum_0 {b : Nat → Int32} {lim : Nat} {p : PS} {lo hi : Int32} (z : (pNum b lim p lo hi).er = 0) : p.er = 0 ∧ p.tk = 2 ∧ pNum1 p = p ∧ pNum2 b p lo hi = p ∧ lo.toInt64 ≤ (pVal b p).toInt64 ∧ (pVal b p).toInt64 ≤ hi.toInt64 := sorry
theorem ss_rng {v : Int32} {a c : Nat} (ha : a < 2 ^ 31) (hc : c < 2 ^ 31) (h : (nI a).toInt64 ≤ v.toInt64 ∧ v.toInt64 ≤ (nI c).toInt64) : ∃ j, a ≤ j ∧ j ≤ c ∧ v = nI j := sorry
theorem pNumV_in {b : Nat → Int32} {lim : Nat} {p : PS} {a c : Nat} (hac : a ≤ c) (hc : c < 2 ^ 31) : ∃ j, a ≤ j ∧ j ≤ c ∧ pNumV b lim p (nI a) (nI c) = nI j := sorry
theorem pLt_num {b : Nat → Int32} {lim : Nat} {p : PS} {lo hi : Int32} (h : PSok lim p) : pLt lim p (pNum b lim p lo hi) := sorry
abbrev S_met_accept (G : GX) (o : Nat) (ad : Nat → Nat) (lb : Nat) (g : Nat → Int32) (p : PS) (b : Nat → Int32) (lim : Nat) (i : Nat) : List va_W := [[(o, wo 5 (mo ad lb (gS g p)))], [(ad 11, wI G 600 b)]]
abbrev Q_met_accept (G : GX) (o : Nat) (ad : Nat → Nat) (lb : Nat) (g : Nat → Int32) (p : PS) (b : Nat → Int32) (lim : Nat) (i : Nat) (A : Nat → Prop) := wQi' G (fun (r : Int32) (z : Unit) => r = if bWord b p (zW i) = true then nI 1 else nI 0) (fun (z : Unit) => ([[(o, wo 5 (mo ad lb (gS g (pAcc b lim p (zW i)))))], [(ad 11, wI G 600 b)]] : List va_W)) A
set_option maxHeartbeats 8000000 in
set_option maxRecDepth 100000 in
theorem met_accept (l : Launch) (G : GX) (sz : Nat) (o : Nat) (ad : Nat → Nat) (lb : Nat) (g : Nat → Int32) (p : PS) (b : Nat → Int32) (lim : Nat) (i : Nat) (hlim : g 5 = nI lim) (hl6 : lim ≤ 600) (hp : PSok lim p) (hz_i : i < nZ) : Met l yX6_accept (ws_ yX6_accept cX6_accept 3 (some .boolean)) ({ frames := 5, cells := 0, slots := 0, locals := 108 }) (va_Pc [.ref o, .ref (G.2.2 (100 + 2 * i))] (wPre G (S_met_accept G o ad lb g p b lim i) sz)) (Q_met_accept G o ad lb g p b lim i (wA (S_met_accept G o ad lb g p b lim i) sz)) 0 0 (wA (S_met_accept G o ad lb g p b lim i) sz) := sorry
abbrev S_met_expectWord (G : GX) (o : Nat) (ad : Nat → Nat) (lb : Nat) (g : Nat → Int32) (p : PS) (b : Nat → Int32) (lim : Nat) (i : Nat) : List va_W := [[(o, wo 5 (mo ad lb (gS g p)))], [(ad 11, wI G 600 b)]]
abbrev Q_met_expectWord (G : GX) (o : Nat) (ad : Nat → Nat) (lb : Nat) (g : Nat → Int32) (p : PS) (b : Nat → Int32) (lim : Nat) (i : Nat) (A : Nat → Prop) := wQv' G (fun (z : Unit) => True) (fun (z : Unit) => ([[(o, wo 5 (mo ad lb (gS g (pExW b lim p (zW i)))))], [(ad 11, wI G 600 b)]] : List va_W)) A
set_option maxHeartbeats 8000000 in
set_option maxRecDepth 100000 in
theorem met_expectWord (l : Launch) (G : GX) (sz : Nat) (o : Nat) (ad : Nat → Nat) (lb : Nat) (g : Nat → Int32) (p : PS) (b : Nat → Int32) (lim : Nat) (i : Nat) (hlim : g 5 = nI lim) (hl6 : lim ≤ 600) (hp : PSok lim p) (hz_i : i < nZ) : Met l yX6_expectWord (ws_ yX6_expectWord cX6_expectWord 2 none) ({ frames := 5, cells := 0, slots := 0, locals := 108 }) (va_Pc [.ref o, .ref (G.2.2 (100 + 2 * i))] (wPre G (S_met_expectWord G o ad lb g p b lim i) sz)) (Q_met_expectWord G o ad lb g p b lim i (wA (S_met_expectWord G o ad lb g p b lim i) sz)) 0 0 (wA (S_met_expectWord G o ad lb g p b lim i) sz) := sorry
abbrev S_met_expect (G : GX) (o : Nat) (ad : Nat → Nat) (lb : Nat) (g : Nat → Int32) (p : PS) (b : Nat → Int32) (lim : Nat) (x : Int32) : List va_W := [[(o, wo 5 (mo ad lb (gS g p)))], [(ad 11, wI G 600 b)]]
abbrev Q_met_expect (G : GX) (o : Nat) (ad : Nat → Nat) (lb : Nat) (g : Nat → Int32) (p : PS) (b : Nat → Int32) (lim : Nat) (x : Int32) (A : Nat → Prop) := wQv' G (fun (z : Unit) => True) (fun (z : Unit) => ([[(o, wo 5 (mo ad lb (gS g (pExS b lim p x))))], [(ad 11, wI G 600 b)]] : List va_W)) A
set_option maxHeartbeats 8000000 in
set_option maxRecDepth 100000 in
theorem met_expect (l : Launch) (G : GX) (sz : Nat) (o : Nat) (ad : Nat → Nat) (lb : Nat) (g : Nat → Int32) (p : PS) (b : Nat → Int32) (lim : Nat) (x : Int32) (hlim : g 5 = nI lim) (hl6 : lim ≤ 600) (hp : PSok lim p) : Met l yX6_expect (ws_ yX6_expect cX6_expect 2 none) ({ frames := 4, cells := 0, slots := 0, locals := 82 }) (va_Pc [.ref o, .int x] (wPre G (S_met_expect G o ad lb g p b lim x) sz)) (Q_met_expect G o ad lb g p b lim x (wA (S_met_expect G o ad lb g p b lim x) sz)) 0 0 (wA (S_met_expect G o ad lb g p b lim x) sz) := sorry
abbrev S_met_integer (G : GX) (o : Nat) (ad : Nat → Nat) (lb : Nat) (g : Nat → Int32) (p : PS) (b : Nat → Int32) (lim : Nat) : List va_W := [[(o, wo 5 (mo ad lb (gS g p)))], [(ad 11, wI G 600 b)]]
abbrev Q_met_integer (G : GX) (o : Nat) (ad : Nat → Nat) (lb : Nat) (g : Nat → Int32) (p : PS) (b : Nat → Int32) (lim : Nat) (A : Nat → Prop) := wQi' G (fun (r : Int32) (z : Unit) => r = pIntV b lim p) (fun (z : Unit) => ([[(o, wo 5 (mo ad lb (gS g (pInt b lim p))))], [(ad 11, wI G 600 b)]] : List va_W)) A
set_option maxHeartbeats 8000000 in
set_option maxRecDepth 100000 in
theorem met_integer (l : Launch) (G : GX) (sz : Nat) (o : Nat) (ad : Nat → Nat) (lb : Nat) (g : Nat → Int32) (p : PS) (b : Nat → Int32) (lim : Nat) (hlim : g 5 = nI lim) (hl6 : lim ≤ 600) (hp : PSok lim p) : Met l yX6_integer (ws_ yX6_integer cX6_integer 3 (some .int)) ({ frames := 5, cells := 0, slots := 0, locals := 105 }) (va_Pc [.ref o] (wPre G (S_met_integer G o ad lb g p b lim) sz)) (Q_met_integer G o ad lb g p b lim (wA (S_met_integer G o ad lb g p b lim) sz)) 0 0 (wA (S_met_integer G o ad lb g p b lim) sz) := sorry
end
section
theorem zR_0 (cs : Nat → Nat) : ("java/lang/Throwable", 81, ": ", cs (100 + 2 * 0)) ∈ zR cs := sorry
theorem zR_1 (cs : Nat → Nat) : ("java/util/Arrays", 337, " > ", cs (100 + 2 * 1)) ∈ zR cs := sorry
theorem zR_2 (cs : Nat → Nat) : ("KrylovLaboratory", 62, "number", cs (100 + 2 * 2)) ∈ zR cs := sorry
theorem zR_3 (cs : Nat → Nat) : ("KrylovLaboratory", 64, "size", cs (100 + 2 * 3)) ∈ zR cs := sorry
theorem zR_4 (cs : Nat → Nat) : ("KrylovLaboratory", 66, "positive", cs (100 + 2 * 4)) ∈ zR cs := sorry
theorem zR_5 (cs : Nat → Nat) : ("KrylovLaboratory", 68, "bound", cs (100 + 2 * 5)) ∈ zR cs := sorry
theorem zR_6 (cs : Nat → Nat) : ("KrylovLaboratory", 70, "locked", cs (100 + 2 * 6)) ∈ zR cs := sorry
theorem zR_7 (cs : Nat → Nat) : ("KrylovLaboratory", 84, "", cs (100 + 2 * 7)) ∈ zR cs := sorry
theorem zR_8 (cs : Nat → Nat) : ("java/util/Arrays", 48, "fromIndex(", cs (100 + 2 * 8)) ∈ zR cs := by
  unfold zR
  exact List.mem_cons_of_mem _ (List.mem_cons_of_mem _ (List.mem_cons_of_mem _ (List.mem_cons_of_mem _ (List.mem_cons_of_mem _ (List.mem_cons_of_mem _ (List.mem_cons_of_mem _ (List.mem_cons_of_mem _ (List.mem_cons_self ..))))))))
theorem zR_9 (cs : Nat → Nat) : ("java/util/Arrays", 57, ") > toIndex(", cs (100 + 2 * 9)) ∈ zR cs := sorry
theorem zR_10 (cs : Nat → Nat) : ("java/util/Arrays", 59, ")", cs (100 + 2 * 10)) ∈ zR cs := by
  unfold zR
  exact List.mem_cons_of_mem _ (List.mem_cons_of_mem _ (List.mem_cons_of_mem _ (List.mem_cons_of_mem _ (List.mem_cons_of_mem _ (List.mem_cons_of_mem _ (List.mem_cons_of_mem _ (List.mem_cons_of_mem _ (List.mem_cons_of_mem _ (List.mem_cons_of_mem _ (List.mem_cons_self ..))))))))))
theorem zR_11 (cs : Nat → Nat) : ("KrylovLaboratory$LaboratoryParser", 15, "order", cs (100 + 2 * 11)) ∈ zR cs := sorry
theorem zR_12 (cs : Nat → Nat) : ("KrylovLaboratory$Scanner", 93, "", cs (100 + 2 * 12)) ∈ zR cs := sorry
theorem zR_13 (cs : Nat → Nat) : ("jdk/internal/util/ArraysSupport", 92, "unrecognized basic type: ", cs (100 + 2 * 13)) ∈ zR cs := sorry
theorem zR_14 (cs : Nat → Nat) : ("KrylovLaboratory$LaboratoryParser", 76, "entry", cs (100 + 2 * 14)) ∈ zR cs := sorry
theorem zR_15 (cs : Nat → Nat) : ("KrylovLaboratory$LaboratoryParser", 82, "start", cs (100 + 2 * 15)) ∈ zR cs := sorry
theorem zR_16 (cs : Nat → Nat) : ("KrylovLaboratory$LaboratoryParser", 84, "mode", cs (100 + 2 * 16)) ∈ zR cs := sorry
theorem zR_17 (cs : Nat → Nat) : ("KrylovLaboratory$LaboratoryParser", 86, "threshold", cs (100 + 2 * 17)) ∈ zR cs := sorry
theorem zR_18 (cs : Nat → Nat) : ("KrylovLaboratory$LaboratoryParser", 88, "tolerance", cs (100 + 2 * 18)) ∈ zR cs := sorry
theorem zR_19 (cs : Nat → Nat) : ("KrylovLaboratory$LaboratoryParser", 122, "none", cs (100 + 2 * 19)) ∈ zR cs := sorry
theorem zR_20 (cs : Nat → Nat) : ("KrylovLaboratory$LaboratoryParser", 124, "selective", cs (100 + 2 * 20)) ∈ zR cs := sorry
theorem zR_21 (cs : Nat → Nat) : ("KrylovLaboratory$LaboratoryParser", 126, "full", cs (100 + 2 * 21)) ∈ zR cs := sorry
theorem zR_22 (cs : Nat → Nat) : ("KrylovLaboratory", 382, " +-", cs (100 + 2 * 22)) ∈ zR cs := sorry
theorem zR_23 (cs : Nat → Nat) : ("KrylovLaboratory$QueryParser", 15, "first", cs (100 + 2 * 23)) ∈ zR cs := sorry
theorem zR_24 (cs : Nat → Nat) : ("KrylovLaboratory$QueryParser", 25, "many", cs (100 + 2 * 24)) ∈ zR cs := sorry
theorem zR_25 (cs : Nat → Nat) : ("KrylovLaboratory$QueryParser", 79, "not", cs (100 + 2 * 25)) ∈ zR cs := sorry
theorem zR_26 (cs : Nat → Nat) : ("KrylovLaboratory$QueryParser", 66, "and", cs (100 + 2 * 26)) ∈ zR cs := sorry
theorem zR_27 (cs : Nat → Nat) : ("KrylovLaboratory$QueryParser", 56, "or", cs (100 + 2 * 27)) ∈ zR cs := sorry
theorem zR_28 (cs : Nat → Nat) : ("KrylovLaboratoryModel", 56, "number", cs (100 + 2 * 28)) ∈ zR cs := sorry
theorem zR_29 (cs : Nat → Nat) : ("KrylovLaboratoryModel", 58, "size", cs (100 + 2 * 29)) ∈ zR cs := sorry
theorem zR_30 (cs : Nat → Nat) : ("KrylovLaboratoryModel", 60, "positive", cs (100 + 2 * 30)) ∈ zR cs := sorry
theorem zR_31 (cs : Nat → Nat) : ("KrylovLaboratoryModel", 62, "bound", cs (100 + 2 * 31)) ∈ zR cs := sorry
theorem zR_32 (cs : Nat → Nat) : ("KrylovLaboratoryModel", 64, "locked", cs (100 + 2 * 32)) ∈ zR cs := sorry
theorem zR_33 (cs : Nat → Nat) : ("KrylovLaboratoryModel", 442, "order", cs (100 + 2 * 33)) ∈ zR cs := sorry
theorem zR_34 (cs : Nat → Nat) : ("KrylovLaboratoryModel", 420, "entry", cs (100 + 2 * 34)) ∈ zR cs := sorry
theorem zR_35 (cs : Nat → Nat) : ("KrylovLaboratoryModel", 425, "start", cs (100 + 2 * 35)) ∈ zR cs := sorry
theorem zR_36 (cs : Nat → Nat) : ("KrylovLaboratoryModel", 430, "mode", cs (100 + 2 * 36)) ∈ zR cs := sorry
theorem zR_37 (cs : Nat → Nat) : ("KrylovLaboratoryModel", 407, "none", cs (100 + 2 * 37)) ∈ zR cs := sorry
theorem zR_38 (cs : Nat → Nat) : ("KrylovLaboratoryModel", 412, "selective", cs (100 + 2 * 38)) ∈ zR cs := sorry
theorem zR_39 (cs : Nat → Nat) : ("KrylovLaboratoryModel", 414, "full", cs (100 + 2 * 39)) ∈ zR cs := sorry
theorem zR_40 (cs : Nat → Nat) : ("KrylovLaboratoryModel", 435, "threshold", cs (100 + 2 * 40)) ∈ zR cs := sorry
theorem zR_41 (cs : Nat → Nat) : ("KrylovLaboratoryModel", 437, "tolerance", cs (100 + 2 * 41)) ∈ zR cs := sorry
theorem zR_42 (cs : Nat → Nat) : ("KrylovLaboratoryModel", 500, "first", cs (100 + 2 * 42)) ∈ zR cs := sorry
theorem zR_43 (cs : Nat → Nat) : ("KrylovLaboratoryModel", 502, "many", cs (100 + 2 * 43)) ∈ zR cs := sorry
theorem zR_44 (cs : Nat → Nat) : ("KrylovLaboratoryModel", 466, "not", cs (100 + 2 * 44)) ∈ zR cs := sorry
theorem zR_45 (cs : Nat → Nat) : ("KrylovLaboratoryModel", 480, "and", cs (100 + 2 * 45)) ∈ zR cs := sorry
theorem zR_46 (cs : Nat → Nat) : ("KrylovLaboratoryModel", 485, "or", cs (100 + 2 * 46)) ∈ zR cs := sorry
theorem zR_use {L : List (String × Nat × String × Nat)} {s : State} (h : ∀ r ∈ L, vk_R r.1 r.2.1 r.2.2.1 r.2.2.2 s) {a : String} {b : Nat} {c : String} {d : Nat} (hm : (a, b, c, d) ∈ L) : vk_R a b c d s := sorry
end
section
theorem ck_1 {A B : Prop} [Decidable A] [Decidable B] (h : A ∨ B) : nI 1 = if decide (A ∨ B) = true then nI 1 else nI 0 := sorry
theorem ck_0 {A B : Prop} [Decidable A] [Decidable B] (h : ¬ (A ∨ B)) : nI 0 = if decide (A ∨ B) = true then nI 1 else nI 0 := sorry
def rEntP (b : Nat → Int32) (lim n : Nat) (p : PS) : PS := pInt b lim (pNum b lim (pNum b lim p (nI 0) (nI (n - 1))) (nI 0) (nI (n - 1)))
def rEntF (b : Nat → Int32) (lim n : Nat) (f : Nat → Int64) (p : PS) : Nat → Int64 := if (rEntP b lim n p).er = 0 then fSet f (pNumV b lim p (nI 0) (nI (n - 1))).toNatClampNeg (pNumV b lim (pNum b lim p (nI 0) (nI (n - 1))) (nI 0) (nI (n - 1))).toNatClampNeg (pIntV b lim (pNum b lim (pNum b lim p (nI 0) (nI (n - 1))) (nI 0) (nI (n - 1)))).toInt64 else f
def rStP (b : Nat → Int32) (lim : Nat) (p : PS) : Nat → PS
  | 0 => p
  | k + 1 => pInt b lim (rStP b lim p k)
abbrev rStV (b : Nat → Int32) (lim : Nat) (p : PS) (k : Nat) : Int32 := pIntV b lim (rStP b lim p k)
def rStZ (b : Nat → Int32) (lim : Nat) (p : PS) : Nat → Bool
  | 0 => true
  | k + 1 => rStZ b lim p k && decide (rStV b lim p k = 0)
def rStF (b : Nat → Int32) (lim n : Nat) (f : Nat → Int64) (p : PS) : Nat → Int64 := va_cpy (fun j => (rStV b lim p j).toInt64) f 0 12 n
def rStP1 (b : Nat → Int32) (lim n : Nat) (p : PS) : PS := pCheck (rStP b lim p n) (decide (¬ (rStP b lim p n).er = 0 ∨ bSym b (rStP b lim p n) (nI 59) = true)) 1
def rStPn (b : Nat → Int32) (lim n : Nat) (p : PS) : PS := pCheck (rStP1 b lim n p) (decide (¬ (rStP1 b lim n p).er = 0 ∨ ¬ rStZ b lim p n = true)) 3
def rModP (b : Nat → Int32) (lim : Nat) (p : PS) : PS := if bWord b p (zW 37) = true then pScan b lim p else if bWord b p (zW 38) = true then pScan b lim p else pExW b lim p (zW 39)
def rModF (b : Nat → Int32) (f : Nat → Int64) (p : PS) : Nat → Int64 := vp_updL f 1 (if bWord b p (zW 37) = true then 0 else if bWord b p (zW 38) = true then 1 else 2)
def rClP0 (b : Nat → Int32) (lim n : Nat) (p : PS) : PS := if bWord b p (zW 34) = true then rEntP b lim n (pScan b lim p) else if bWord b p (zW 35) = true then rStPn b lim n (pScan b lim p) else if bWord b p (zW 36) = true then rModP b lim (pScan b lim p) else if bWord b p (zW 40) = true then pNum b lim (pScan b lim p) (nI 1) (nI 1000000) else pNum b lim (pExW b lim p (zW 41)) (nI 1) (nI 1000000)
def rClP (b : Nat → Int32) (lim n : Nat) (p : PS) : PS := pExS b lim (rClP0 b lim n p) (nI 59)
def rClF (b : Nat → Int32) (lim n : Nat) (f : Nat → Int64) (p : PS) : Nat → Int64 := if bWord b p (zW 34) = true then rEntF b lim n f (pScan b lim p) else if bWord b p (zW 35) = true then rStF b lim n f (pScan b lim p) else if bWord b p (zW 36) = true then rModF b f (pScan b lim p) else if bWord b p (zW 40) = true then vp_updL f 2 (pNumV b lim (pScan b lim p) (nI 1) (nI 1000000)).toInt64 else vp_updL f 3 (pNumV b lim (pExW b lim p (zW 41)) (nI 1) (nI 1000000)).toInt64
def rOrdP1 (b : Nat → Int32) (lim : Nat) (p : PS) : PS := pNum b lim (pExW b lim p (zW 33)) (nI 2) (nI 6)
def rOrdP (b : Nat → Int32) (lim : Nat) (p : PS) : PS := pExS b lim (rOrdP1 b lim p) (nI 59)
def rOrdN (b : Nat → Int32) (lim : Nat) (p : PS) : Nat := (pNumV b lim (pExW b lim p (zW 33)) (nI 2) (nI 6)).toNatClampNeg
def rTx (b : Nat → Int32) (lim n : Nat) : Nat → (Nat → Int64) × PS → (Nat → Int64) × PS
  | 0, s => s
  | t + 1, s => if s.2.er = 0 ∧ ¬ s.2.tk = 0 then rTx b lim n t (rClF b lim n s.1 s.2, rClP b lim n s.2) else s
def rTxt (b : Nat → Int32) (lim : Nat) (p : PS) : (Nat → Int64) × PS := rTx b lim (rOrdN b lim p) (lim + 4) (fClr (rOrdN b lim p), rOrdP b lim p)
def pBeg (b : Nat → Int32) (lim : Nat) (p : PS) : PS := pScan b lim (0, p.bg, p.tk, 0, p.ea, 0)
theorem pBeg_ok {b : Nat → Int32} {lim : Nat} {p : PS} (he : p.ea ≤ 600) : PSok lim (pBeg b lim p) := sorry
theorem rEntP_ok {b : Nat → Int32} {lim n : Nat} {p : PS} (hl : lim ≤ 600) (h : PSok lim p) : PSok lim (rEntP b lim n p) := sorry
theorem rEntP_go {b : Nat → Int32} {lim n : Nat} {p : PS} (hl : lim ≤ 600) (h : PSok lim p) : pGo lim p (rEntP b lim n p) := sorry
theorem rStP_ok {b : Nat → Int32} {lim : Nat} {p : PS} (hl : lim ≤ 600) (h : PSok lim p) (k : Nat) : PSok lim (rStP b lim p k) := sorry
theorem rStP_go {b : Nat → Int32} {lim : Nat} {p : PS} (hl : lim ≤ 600) (h : PSok lim p) (k : Nat) : pGo lim p (rStP b lim p k) := sorry
theorem rStP1_ok {b : Nat → Int32} {lim n : Nat} {p : PS} (hl : lim ≤ 600) (h : PSok lim p) : PSok lim (rStP1 b lim n p) := sorry
theorem rStPn_ok {b : Nat → Int32} {lim n : Nat} {p : PS} (hl : lim ≤ 600) (h : PSok lim p) : PSok lim (rStPn b lim n p) := sorry
theorem rStPn_go {b : Nat → Int32} {lim n : Nat} {p : PS} (hl : lim ≤ 600) (h : PSok lim p) : pGo lim p (rStPn b lim n p) := sorry
theorem rModP_ok {b : Nat → Int32} {lim : Nat} {p : PS} (hl : lim ≤ 600) (h : PSok lim p) : PSok lim (rModP b lim p) := sorry
theorem rModP_go {b : Nat → Int32} {lim : Nat} {p : PS} (hl : lim ≤ 600) (h : PSok lim p) : pGo lim p (rModP b lim p) := sorry
theorem rClP0_ok {b : Nat → Int32} {lim n : Nat} {p : PS} (hl : lim ≤ 600) (h : PSok lim p) : PSok lim (rClP0 b lim n p) := sorry
theorem rClP_ok {b : Nat → Int32} {lim n : Nat} {p : PS} (hl : lim ≤ 600) (h : PSok lim p) : PSok lim (rClP b lim n p) := sorry
theorem rClP_lt {b : Nat → Int32} {lim n : Nat} {p : PS} (hl : lim ≤ 600) (h : PSok lim p) (ht : ¬ p.tk = 0) : pLt lim p (rClP b lim n p) := sorry
theorem rClP_go {b : Nat → Int32} {lim n : Nat} {p : PS} (hl : lim ≤ 600) (h : PSok lim p) : pGo lim p (rClP b lim n p) := sorry
theorem rOrdP1_ok {b : Nat → Int32} {lim : Nat} {p : PS} (hl : lim ≤ 600) (h : PSok lim p) : PSok lim (rOrdP1 b lim p) := sorry
theorem rOrdP_ok {b : Nat → Int32} {lim : Nat} {p : PS} (hl : lim ≤ 600) (h : PSok lim p) : PSok lim (rOrdP b lim p) := sorry
theorem rOrdN_in {b : Nat → Int32} {lim : Nat} {p : PS} : 2 ≤ rOrdN b lim p ∧ rOrdN b lim p ≤ 6 ∧ pNumV b lim (pExW b lim p (zW 33)) (nI 2) (nI 6) = nI (rOrdN b lim p) := sorry
theorem rTx_hf {lim : Nat} {p q : PS} {t : Nat} (h : pLt lim p q) (h0 : p.er = 0) (hf : (if p.er = 0 then pMu lim p + 1 else 0) < t + 1) : (if q.er = 0 then pMu lim q + 1 else 0) < t := sorry
theorem pMu_le {lim : Nat} {p : PS} : (if p.er = 0 then pMu lim p + 1 else 0) < lim + 4 := sorry
theorem rTx_1 {b : Nat → Int32} {lim n t : Nat} {x : Nat → Int64} {r : PS} {z : (Nat → Int64) × PS} (h : rTx b lim n (t + 1) (x, r) = z) (h0 : r.er = 0) (h1 : ¬ r.tk = 0) : rTx b lim n t (rClF b lim n x r, rClP b lim n r) = z := sorry
theorem rTx_2 {b : Nat → Int32} {lim n t : Nat} {x : Nat → Int64} {r : PS} {z : (Nat → Int64) × PS} (h : rTx b lim n (t + 1) (x, r) = z) (h0 : ¬ (r.er = 0 ∧ ¬ r.tk = 0)) : (x, r) = z := sorry
theorem rStZ_1 {Z : Bool} {v : Int32} (h : ¬ (if Z = true then nI 1 else nI 0) = 0) (hv : v.toInt64 = 0) : nI 1 = if (Z && decide (v = 0)) = true then nI 1 else nI 0 := sorry
theorem rStZ_2 {Z : Bool} {v : Int32} (h : (if Z = true then nI 1 else nI 0) = 0) : nI 0 = if (Z && decide (v = 0)) = true then nI 1 else nI 0 := sorry
theorem rStZ_3 {Z : Bool} {v : Int32} (hv : ¬ v.toInt64 = 0) : nI 0 = if (Z && decide (v = 0)) = true then nI 1 else nI 0 := sorry
abbrev S_met_readEntry (G : GX) (o : Nat) (ad : Nat → Nat) (lb : Nat) (g : Nat → Int32) (p : PS) (b : Nat → Int32) (lim : Nat) (f : Nat → Int64) (n : Nat) : List va_W := [[(o, wo 5 (mo ad lb (gS g p)))], [(ad 11, wI G 600 b)], [(lb, wL G 208 f)]]
abbrev Q_met_readEntry (G : GX) (o : Nat) (ad : Nat → Nat) (lb : Nat) (g : Nat → Int32) (p : PS) (b : Nat → Int32) (lim : Nat) (f : Nat → Int64) (n : Nat) (A : Nat → Prop) := wQv' G (fun (z : Unit) => True) (fun (z : Unit) => ([[(o, wo 5 (mo ad lb (gS g (rEntP b lim n p))))], [(ad 11, wI G 600 b)], [(lb, wL G 208 (rEntF b lim n f p))]] : List va_W)) A
set_option maxHeartbeats 8000000 in
set_option maxRecDepth 100000 in
theorem met_readEntry (l : Launch) (G : GX) (sz : Nat) (o : Nat) (ad : Nat → Nat) (lb : Nat) (g : Nat → Int32) (p : PS) (b : Nat → Int32) (lim : Nat) (f : Nat → Int64) (n : Nat) (hlim : g 5 = nI lim) (hl6 : lim ≤ 600) (hp : PSok lim p) (h0 : f 0 = lN n) (hn : n ≤ 6) (h2n : 2 ≤ n) : Met l yX6_readEntry (ws_ yX6_readEntry cX6_readEntry 4 none) ({ frames := 6, cells := 0, slots := 0, locals := 127 }) (va_Pc [.ref o] (wPre G (S_met_readEntry G o ad lb g p b lim f n) sz)) (Q_met_readEntry G o ad lb g p b lim f n (wA (S_met_readEntry G o ad lb g p b lim f n) sz)) 0 0 (wA (S_met_readEntry G o ad lb g p b lim f n) sz) := sorry
abbrev S_met_readStart (G : GX) (o : Nat) (ad : Nat → Nat) (lb : Nat) (g : Nat → Int32) (p : PS) (b : Nat → Int32) (lim : Nat) (f : Nat → Int64) (n : Nat) : List va_W := [[(o, wo 5 (mo ad lb (gS g p)))], [(ad 11, wI G 600 b)], [(lb, wL G 208 f)]]
abbrev Q_met_readStart (G : GX) (o : Nat) (ad : Nat → Nat) (lb : Nat) (g : Nat → Int32) (p : PS) (b : Nat → Int32) (lim : Nat) (f : Nat → Int64) (n : Nat) (A : Nat → Prop) := wQv' G (fun (z : Unit) => True) (fun (z : Unit) => ([[(o, wo 5 (mo ad lb (gS g (rStPn b lim n p))))], [(ad 11, wI G 600 b)], [(lb, wL G 208 (rStF b lim n f p))]] : List va_W)) A
set_option maxHeartbeats 8000000 in
set_option maxRecDepth 100000 in
theorem met_readStart (l : Launch) (G : GX) (sz : Nat) (o : Nat) (ad : Nat → Nat) (lb : Nat) (g : Nat → Int32) (p : PS) (b : Nat → Int32) (lim : Nat) (f : Nat → Int64) (n : Nat) (hlim : g 5 = nI lim) (hl6 : lim ≤ 600) (hp : PSok lim p) (h0 : f 0 = lN n) (hn : n ≤ 6) (h2n : 2 ≤ n) : Met l yX6_readStart (ws_ yX6_readStart cX6_readStart 3 none) ({ frames := 6, cells := 0, slots := 0, locals := 127 }) (va_Pc [.ref o] (wPre G (S_met_readStart G o ad lb g p b lim f n) sz)) (Q_met_readStart G o ad lb g p b lim f n (wA (S_met_readStart G o ad lb g p b lim f n) sz)) 0 0 (wA (S_met_readStart G o ad lb g p b lim f n) sz) := sorry
abbrev S_met_readMode (G : GX) (o : Nat) (ad : Nat → Nat) (lb : Nat) (g : Nat → Int32) (p : PS) (b : Nat → Int32) (lim : Nat) (f : Nat → Int64) : List va_W := [[(o, wo 5 (mo ad lb (gS g p)))], [(ad 11, wI G 600 b)], [(lb, wL G 208 f)]]
abbrev Q_met_readMode (G : GX) (o : Nat) (ad : Nat → Nat) (lb : Nat) (g : Nat → Int32) (p : PS) (b : Nat → Int32) (lim : Nat) (f : Nat → Int64) (A : Nat → Prop) := wQv' G (fun (z : Unit) => True) (fun (z : Unit) => ([[(o, wo 5 (mo ad lb (gS g (rModP b lim p))))], [(ad 11, wI G 600 b)], [(lb, wL G 208 (rModF b f p))]] : List va_W)) A
set_option maxHeartbeats 8000000 in
set_option maxRecDepth 100000 in
theorem met_readMode (l : Launch) (G : GX) (sz : Nat) (o : Nat) (ad : Nat → Nat) (lb : Nat) (g : Nat → Int32) (p : PS) (b : Nat → Int32) (lim : Nat) (f : Nat → Int64) (hlim : g 5 = nI lim) (hl6 : lim ≤ 600) (hp : PSok lim p) : Met l yX6_readMode (ws_ yX6_readMode cX6_readMode 1 none) ({ frames := 6, cells := 0, slots := 0, locals := 130 }) (va_Pc [.ref o] (wPre G (S_met_readMode G o ad lb g p b lim f) sz)) (Q_met_readMode G o ad lb g p b lim f (wA (S_met_readMode G o ad lb g p b lim f) sz)) 0 0 (wA (S_met_readMode G o ad lb g p b lim f) sz) := sorry
abbrev S_met_readClause (G : GX) (o : Nat) (ad : Nat → Nat) (lb : Nat) (g : Nat → Int32) (p : PS) (b : Nat → Int32) (lim : Nat) (f : Nat → Int64) (n : Nat) : List va_W := [[(o, wo 5 (mo ad lb (gS g p)))], [(ad 11, wI G 600 b)], [(lb, wL G 208 f)]]
abbrev Q_met_readClause (G : GX) (o : Nat) (ad : Nat → Nat) (lb : Nat) (g : Nat → Int32) (p : PS) (b : Nat → Int32) (lim : Nat) (f : Nat → Int64) (n : Nat) (A : Nat → Prop) := wQv' G (fun (z : Unit) => True) (fun (z : Unit) => ([[(o, wo 5 (mo ad lb (gS g (rClP b lim n p))))], [(ad 11, wI G 600 b)], [(lb, wL G 208 (rClF b lim n f p))]] : List va_W)) A
set_option maxHeartbeats 8000000 in
set_option maxRecDepth 100000 in
theorem met_readClause (l : Launch) (G : GX) (sz : Nat) (o : Nat) (ad : Nat → Nat) (lb : Nat) (g : Nat → Int32) (p : PS) (b : Nat → Int32) (lim : Nat) (f : Nat → Int64) (n : Nat) (hlim : g 5 = nI lim) (hl6 : lim ≤ 600) (hp : PSok lim p) (h0 : f 0 = lN n) (hn : n ≤ 6) (h2n : 2 ≤ n) : Met l yX6_readClause (ws_ yX6_readClause cX6_readClause 1 none) ({ frames := 7, cells := 0, slots := 0, locals := 150 }) (va_Pc [.ref o] (wPre G (S_met_readClause G o ad lb g p b lim f n) sz)) (Q_met_readClause G o ad lb g p b lim f n (wA (S_met_readClause G o ad lb g p b lim f n) sz)) 0 0 (wA (S_met_readClause G o ad lb g p b lim f n) sz) := sorry
abbrev S_met_readOrder (G : GX) (o : Nat) (ad : Nat → Nat) (lb : Nat) (g : Nat → Int32) (p : PS) (b : Nat → Int32) (lim : Nat) (d : Nat → Int64) : List va_W := [[(o, wo 5 (mo ad lb (gS g p)))], [(ad 11, wI G 600 b)], [(ad 1, wL G 208 d)]]
abbrev Q_met_readOrder (G : GX) (o : Nat) (ad : Nat → Nat) (lb : Nat) (g : Nat → Int32) (p : PS) (b : Nat → Int32) (lim : Nat) (d : Nat → Int64) (A : Nat → Prop) := wQv' G (fun (z : Unit) => True) (fun (z : Unit) => ([[(o, wo 5 (mo ad lb (gS g (rOrdP b lim p))))], [(ad 11, wI G 600 b)], [(ad 1, wL G 208 (fClr (rOrdN b lim p)))]] : List va_W)) A
set_option maxHeartbeats 8000000 in
set_option maxRecDepth 100000 in
theorem met_readOrder (l : Launch) (G : GX) (sz : Nat) (o : Nat) (ad : Nat → Nat) (lb : Nat) (g : Nat → Int32) (p : PS) (b : Nat → Int32) (lim : Nat) (d : Nat → Int64) (hlim : g 5 = nI lim) (hl6 : lim ≤ 600) (hp : PSok lim p) : Met l yX6_readOrder (ws_ yX6_readOrder cX6_readOrder 2 none) ({ frames := 6, cells := 0, slots := 0, locals := 129 }) (va_Pc [.ref o] (wPre G (S_met_readOrder G o ad lb g p b lim d) sz)) (Q_met_readOrder G o ad lb g p b lim d (wA (S_met_readOrder G o ad lb g p b lim d) sz)) 0 0 (wA (S_met_readOrder G o ad lb g p b lim d) sz) := sorry
end
section
theorem rEntF_at {b : Nat → Int32} {lim n j : Nat} {f : Nat → Int64} {p : PS} (h : j < 12) (hn : n ≤ 6) (h2 : 2 ≤ n) : rEntF b lim n f p j = f j := sorry
theorem rClF_ge {b : Nat → Int32} {lim n j : Nat} {f : Nat → Int64} {p : PS} (h : j < 12) (h1 : j ≠ 1) (h2 : j ≠ 2) (h3 : j ≠ 3) (hn : n ≤ 6) (hn2 : 2 ≤ n) : rClF b lim n f p j = f j := sorry
theorem rClF_at {b : Nat → Int32} {lim j : Nat} {f : Nat → Int64} {p q : PS} (h : j = 0 ∨ j = 6) : rClF b lim (rOrdN b lim q) f p j = f j := sorry
theorem gS_all (g : Nat → Int32) : ∃ p : PS, gS g p = g := sorry
abbrev S_met_readText (G : GX) (o : Nat) (ad : Nat → Nat) (g : Nat → Int32) (p : PS) (b : Nat → Int32) (lim : Nat) (d : Nat → Int64) (u0 : Nat → Int64) : List va_W := [[(o, wo 5 (mo ad (ad 0) (gS g p)))], [(ad 11, wI G 600 b)], [(ad 1, wL G 208 d)], [(ad 5, wL G 6 u0)]]
abbrev Q_met_readText (G : GX) (o : Nat) (ad : Nat → Nat) (g : Nat → Int32) (p : PS) (b : Nat → Int32) (lim : Nat) (d : Nat → Int64) (u0 : Nat → Int64) (A : Nat → Prop) := wQi' G (fun (r : Int32) (z : Nat → Int64) => r = if (rTxt b lim p).2.er = 0 ∧ okBeg rootM (rOrdN b lim p) 0 (rTxt b lim p).1 (vStart (rTxt b lim p).1) then nI 1 else nI 0) (fun (z : Nat → Int64) => ([[(o, wo 5 (mo ad (ad 0) (upd (upd (gS g (rTxt b lim p).2) 4 (nI 0)) 11 (if (rTxt b lim p).2.er = 0 then -1 else nI (rTxt b lim p).2.ea))))], [(ad 11, wI G 600 b)], [(ad 1, wL G 208 (if (rTxt b lim p).2.er = 0 then fBeg rootM (rOrdN b lim p) 0 (rTxt b lim p).1 (vStart (rTxt b lim p).1) else (rTxt b lim p).1))], [(ad 5, wL G 6 z)]] : List va_W)) A
set_option maxHeartbeats 8000000 in
set_option maxRecDepth 100000 in
theorem met_readText (l : Launch) (G : GX) (sz : Nat) (o : Nat) (ad : Nat → Nat) (g : Nat → Int32) (p : PS) (b : Nat → Int32) (lim : Nat) (d : Nat → Int64) (u0 : Nat → Int64) (hlim : g 5 = nI lim) (hl6 : lim ≤ 600) (hp : PSok lim p) : Met l yX6_readText (ws_ yX6_readText cX6_readText 2 (some .boolean)) ({ frames := 8, cells := 0, slots := 0, locals := 170 }) (va_Pc [.ref o] (wPre G (S_met_readText G o ad g p b lim d u0) sz)) (Q_met_readText G o ad g p b lim d u0 (wA (S_met_readText G o ad g p b lim d u0) sz)) 0 0 (wA (S_met_readText G o ad g p b lim d u0) sz) := sorry
theorem rTx_in {b : Nat → Int32} {lim n : Nat} (hl : lim ≤ 600) (hn : n ≤ 6) (hn2 : 2 ≤ n) : ∀ (t : Nat) (f : Nat → Int64) (p : PS), PSok lim p → PSok lim (rTx b lim n t (f, p)).2 ∧ pGo lim p (rTx b lim n t (f, p)).2 ∧ ∀ j, j < 12 → j ≠ 1 → j ≠ 2 → j ≠ 3 → (rTx b lim n t (f, p)).1 j = f j := sorry
theorem rTxt_ok {b : Nat → Int32} {lim : Nat} {p : PS} (hl : lim ≤ 600) (h : PSok lim p) : PSok lim (rTxt b lim p).2 := sorry
theorem rTxt_at {b : Nat → Int32} {lim : Nat} {p : PS} (hl : lim ≤ 600) (h : PSok lim p) {j : Nat} (a1 : j < 12) (a2 : j ≠ 1) (a3 : j ≠ 2) (a4 : j ≠ 3) : (rTxt b lim p).1 j = fClr (rOrdN b lim p) j := sorry
theorem ss_ifbl {x : Int32} {bl : Nat} (hbl : bl ≤ 600) {α : Type} (u v : α) : (if (0 : Int64) ≤ x.toInt64 ∧ x.toInt64 ≤ (nI bl).toInt64 then u else v) = (if 0 ≤ x ∧ x < nI (bl + 1) then u else v) := sorry
abbrev S_met_load_out (G : GX) (o : Nat) (ad : Nat → Nat) (g : Nat → Int32) (p : PS) (bl : Nat) (x : Int32) : List va_W := [[(o, wo 5 (mo ad (ad 0) (gS g p)))]]
abbrev Q_met_load_out (G : GX) (o : Nat) (ad : Nat → Nat) (g : Nat → Int32) (p : PS) (bl : Nat) (x : Int32) (A : Nat → Prop) := wQi' G (fun (r : Int32) (z : Unit) => r = nI 0) (fun (z : Unit) => ([[(o, wo 5 (mo ad (ad 0) (gS (upd g 1 (nI 1)) p)))]] : List va_W)) A
set_option maxHeartbeats 8000000 in
set_option maxRecDepth 100000 in
theorem met_load_out (l : Launch) (G : GX) (sz : Nat) (o : Nat) (ad : Nat → Nat) (g : Nat → Int32) (p : PS) (bl : Nat) (x : Int32) (hb4 : g 4 = nI bl) (hbl : bl ≤ 600) (hxo : ¬ (0 ≤ x ∧ x < nI (bl + 1))) : Met l yX6_load (ws_ yX6_load cX6_load 2 (some .int)) ({ frames := 1, cells := 0, slots := 0, locals := 25 }) (va_Pc [.ref o, .int x] (wPre G (S_met_load_out G o ad g p bl x) sz)) (Q_met_load_out G o ad g p bl x (wA (S_met_load_out G o ad g p bl x) sz)) 0 0 (wA (S_met_load_out G o ad g p bl x) sz) := sorry
abbrev S_met_load_bad (G : GX) (o : Nat) (ad : Nat → Nat) (g : Nat → Int32) (p : PS) (b : Nat → Int32) (lim : Nat) (bl : Nat) (f : Nat → Int64) (d : Nat → Int64) (u0 : Nat → Int64) : List va_W := [[(o, wo 5 (mo ad (ad 0) (gS g p)))], [(ad 11, wI G 600 b)], [(ad 0, wL G 208 f)], [(ad 1, wL G 208 d)], [(ad 5, wL G 6 u0)]]
abbrev Q_met_load_bad (G : GX) (o : Nat) (ad : Nat → Nat) (g : Nat → Int32) (p : PS) (b : Nat → Int32) (lim : Nat) (bl : Nat) (f : Nat → Int64) (d : Nat → Int64) (u0 : Nat → Int64) (A : Nat → Prop) := wQi' G (fun (r : Int32) (y : (Nat → Int64) × (Nat → Int64)) => r = -10 - nI (rTxt b lim (pBeg b lim p)).2.er) (fun (y : (Nat → Int64) × (Nat → Int64)) => ([[(o, wo 5 (mo ad (ad 0) (upd (upd (gS (upd (upd g 1 (nI 0)) 5 (nI lim)) (rTxt b lim (pBeg b lim p)).2) 4 (nI 0)) 11 (if (rTxt b lim (pBeg b lim p)).2.er = 0 then -1 else nI (rTxt b lim (pBeg b lim p)).2.ea))))], [(ad 11, wI G 600 b)], [(ad 0, wL G 208 f)], [(ad 1, wL G 208 y.1)], [(ad 5, wL G 6 y.2)]] : List va_W)) A
set_option maxHeartbeats 8000000 in
set_option maxRecDepth 100000 in
theorem met_load_bad (l : Launch) (G : GX) (sz : Nat) (o : Nat) (ad : Nat → Nat) (g : Nat → Int32) (p : PS) (b : Nat → Int32) (lim : Nat) (bl : Nat) (f : Nat → Int64) (d : Nat → Int64) (u0 : Nat → Int64) (hb4 : g 4 = nI bl) (hbl : bl ≤ 600) (hlb : lim ≤ bl) (hea : p.ea ≤ 600) (hbad : ¬ ((rTxt b lim (pBeg b lim p)).2.er = 0 ∧ okBeg rootM (rOrdN b lim (pBeg b lim p)) 0 (rTxt b lim (pBeg b lim p)).1 (vStart (rTxt b lim (pBeg b lim p)).1))) : Met l yX6_load (ws_ yX6_load cX6_load 2 (some .int)) ({ frames := 9, cells := 0, slots := 0, locals := 191 }) (va_Pc [.ref o, .int (nI lim)] (wPre G (S_met_load_bad G o ad g p b lim bl f d u0) sz)) (Q_met_load_bad G o ad g p b lim bl f d u0 (wA (S_met_load_bad G o ad g p b lim bl f d u0) sz)) 0 0 (wA (S_met_load_bad G o ad g p b lim bl f d u0) sz) := sorry
abbrev S_met_load_ok (G : GX) (o : Nat) (ad : Nat → Nat) (g : Nat → Int32) (p : PS) (b : Nat → Int32) (lim : Nat) (bl : Nat) (f : Nat → Int64) (d : Nat → Int64) (u0 : Nat → Int64) : List va_W := [[(o, wo 5 (mo ad (ad 0) (gS g p)))], [(ad 11, wI G 600 b)], [(ad 0, wL G 208 f)], [(ad 1, wL G 208 d)], [(ad 5, wL G 6 u0)]]
abbrev Q_met_load_ok (G : GX) (o : Nat) (ad : Nat → Nat) (g : Nat → Int32) (p : PS) (b : Nat → Int32) (lim : Nat) (bl : Nat) (f : Nat → Int64) (d : Nat → Int64) (u0 : Nat → Int64) (A : Nat → Prop) := wQi' G (fun (r : Int32) (y : (Nat → Int64) × (Nat → Int64)) => r = nI (rOrdN b lim (pBeg b lim p))) (fun (y : (Nat → Int64) × (Nat → Int64)) => ([[(o, wo 5 (mo ad (ad 0) (upd (upd (upd (upd (gS (upd (upd g 1 (nI 0)) 5 (nI lim)) (rTxt b lim (pBeg b lim p)).2) 4 (nI 0)) 11 (-1)) 0 (nI 0)) 2 (nI 0))))], [(ad 11, wI G 600 b)], [(ad 0, wL G 208 (fBeg rootM (rOrdN b lim (pBeg b lim p)) 0 (rTxt b lim (pBeg b lim p)).1 (vStart (rTxt b lim (pBeg b lim p)).1)))], [(ad 1, wL G 208 y.1)], [(ad 5, wL G 6 y.2)]] : List va_W)) A
set_option maxHeartbeats 8000000 in
set_option maxRecDepth 100000 in
theorem met_load_ok (l : Launch) (G : GX) (sz : Nat) (o : Nat) (ad : Nat → Nat) (g : Nat → Int32) (p : PS) (b : Nat → Int32) (lim : Nat) (bl : Nat) (f : Nat → Int64) (d : Nat → Int64) (u0 : Nat → Int64) (hb4 : g 4 = nI bl) (hbl : bl ≤ 600) (hlb : lim ≤ bl) (hea : p.ea ≤ 600) (hok : (rTxt b lim (pBeg b lim p)).2.er = 0 ∧ okBeg rootM (rOrdN b lim (pBeg b lim p)) 0 (rTxt b lim (pBeg b lim p)).1 (vStart (rTxt b lim (pBeg b lim p)).1)) : Met l yX6_load (ws_ yX6_load cX6_load 2 (some .int)) ({ frames := 9, cells := 0, slots := 0, locals := 191 }) (va_Pc [.ref o, .int (nI lim)] (wPre G (S_met_load_ok G o ad g p b lim bl f d u0) sz)) (Q_met_load_ok G o ad g p b lim bl f d u0 (wA (S_met_load_ok G o ad g p b lim bl f d u0) sz)) 0 0 (wA (S_met_load_ok G o ad g p b lim bl f d u0) sz) := sorry
end
section
abbrev QS := PS × (Nat → Int32) × Nat
def pNsU (p : PS) (k : Nat) : PS := (p.1, p.2.1, p.2.2.1, p.2.2.2.1, p.2.2.2.2.1, k)
def qEm (s : QS) (x : Int32) : QS := if s.1.er = 0 then (s.1, upd s.2.1 s.2.2 x, s.2.2 + 1) else s
def qNm (b : Nat → Int32) (p : PS) : Nat := if bWord b p (zW 28) = true then 0 else if bWord b p (zW 29) = true then 1 else if bWord b p (zW 30) = true then 2 else if bWord b p (zW 31) = true then 3 else if bWord b p (zW 32) = true then 4 else 5
def qVal (b : Nat → Int32) (lim : Nat) (s : QS) : QS := if ¬ s.1.er = 0 ∨ s.1.tk = 2 then qEm (pNum b lim s.1 (nI 0) (nI 999999999), s.2) (pNumV b lim s.1 (nI 0) (nI 999999999))
  else (pAdv b lim (qEm (pCheck s.1 (decide (qNm b s.1 < 5)) 1, s.2) (-1 - nI (qNm b s.1))).1, (qEm (pCheck s.1 (decide (qNm b s.1 < 5)) 1, s.2) (-1 - nI (qNm b s.1))).2)
def pEnt0 (p : PS) : PS := pCheck p (decide (p.ns < 6)) 3
def pEnt (b : Nat → Int32) (lim : Nat) (p : PS) : PS := pAdv b lim (pNsU (pEnt0 p) ((pEnt0 p).ns + 1))
def qDn (s : QS) : QS := (pNsU s.1 (s.1.ns - 1), s.2)
def qOp (b : Nat → Int32) (p : PS) : Int32 := if bSym b p (nI 60) = true then -20 else if bSym b p (nI 61) = true then -21 else -22
def pRel (b : Nat → Int32) (p : PS) : PS := pCheck p (decide (¬ qOp b p = -22 ∨ bSym b p (nI 62) = true)) 1
def qCmp (b : Nat → Int32) (lim : Nat) (s : QS) : QS := qEm (qVal b lim (pAdv b lim (pRel b (qVal b lim s).1), (qVal b lim s).2)) (qOp b (qVal b lim s).1)
def qIn (F : QS → QS) (s : QS) : QS := if s.1.er = 0 then F s else s
def qNot (b : Nat → Int32) (lim : Nat) (F : QS → QS) (s : QS) : QS := qDn (qEm (qIn F (pEnt b lim s.1, s.2)) (-23))
def qPar (b : Nat → Int32) (lim : Nat) (T : QS → QS) (s : QS) : QS := qDn (pExS b lim (qIn T (pEnt b lim s.1, s.2)).1 (nI 41), (qIn T (pEnt b lim s.1, s.2)).2)
def qFacS (b : Nat → Int32) (lim : Nat) (F T : QS → QS) (s : QS) : QS := if bWord b s.1 (zW 44) = true then qNot b lim F s else if bSym b s.1 (nI 40) = true then qPar b lim T s else qCmp b lim s
def qLop (b : Nat → Int32) (lim : Nat) (F : QS → QS) (w : List Int32) (op : Int32) : Nat → QS → QS
  | 0, s => s
  | t + 1, s => if bWord b s.1 w = true then qLop b lim F w op t (qEm (F (pScan b lim s.1, s.2)) op) else s
def qCon (b : Nat → Int32) (lim : Nat) (F : QS → QS) (s : QS) : QS := qLop b lim F (zW 45) (-24) (lim + 4) (F s)
def qTst (b : Nat → Int32) (lim : Nat) (F : QS → QS) (s : QS) : QS := qLop b lim (qCon b lim F) (zW 46) (-25) (lim + 4) (qCon b lim F s)
def qFac (b : Nat → Int32) (lim : Nat) : Nat → QS → QS
  | 0 => qFacS b lim id id
  | d + 1 => qFacS b lim (qFac b lim d) (qTst b lim (qFac b lim d))
/-- what holds of a state of the compiling; what a step of it keeps -/
def qOK (lim : Nat) (s : QS) : Prop := PSok lim s.1 ∧ s.2.2 ≤ 200 ∧ (s.1.er = 0 → s.2.2 ≤ s.1.bg)
def qGo (lim : Nat) (s t : QS) : Prop := PSok lim t.1 ∧ t.2.2 ≤ 200 ∧ pGo lim s.1 t.1 ∧ (t.1.er = 0 → t.2.2 + s.1.bg ≤ s.2.2 + t.1.bg)
def qLt (lim : Nat) (s t : QS) : Prop := t.1.er = 0 → s.1.nx ≤ t.1.bg ∧ pMu lim t.1 < pMu lim s.1
theorem qGo.ok {lim : Nat} {s t : QS} (h : qOK lim s) (g : qGo lim s t) : qOK lim t := sorry
theorem qGo.tr {lim : Nat} {s t u : QS} (h : qGo lim s t) (g : qGo lim t u) : qGo lim s u := sorry
theorem qGo.rf {lim : Nat} {s : QS} (h : qOK lim s) : qGo lim s s := sorry
theorem qGo.p {lim : Nat} {s : QS} {p : PS} (h : qOK lim s) (h1 : PSok lim p) (h2 : pGo lim s.1 p) : qGo lim s (p, s.2) := sorry
theorem qLt.tr {lim : Nat} {s t u : QS} (h : qLt lim s t) (g : qGo lim t u) : qLt lim s u := sorry
theorem qLt.rt {lim : Nat} {s t u : QS} (h : qGo lim s t) (g : qLt lim t u) (hg : pGo lim t.1 u.1) (hb : t.1.er = 0 → s.1.nx ≤ t.1.nx) : qLt lim s u := sorry
theorem qEm_0 {s : QS} {x : Int32} (h : s.1.er = 0) : qEm s x = (s.1, upd s.2.1 s.2.2 x, s.2.2 + 1) := sorry
theorem qEm_1 {s : QS} {x : Int32} (h : ¬ s.1.er = 0) : qEm s x = s := sorry
theorem qEm_p {s : QS} {x : Int32} : (qEm s x).1 = s.1 := sorry
/-- a code is laid behind a token that was consumed -/
theorem qEm_go {lim : Nat} {s t : QS} {x : Int32} (hl : lim ≤ 200) (h : qOK lim s) (g : qGo lim s t) (ht : t.1.er = 0 → t.2.2 + 1 + s.1.bg ≤ s.2.2 + t.1.bg) : qGo lim s (qEm t x) := sorry
theorem tok_lt {lim : Nat} {s s1 t : QS} (hl : lim ≤ 200) (h : qOK lim s) (hb : s1.1.er = 0 → s.1.bg + 1 ≤ s1.1.bg) (hg : pGo lim s.1 s1.1) (hc : s1.2.2 = s.2.2) (g : qGo lim s1 t) (z : t.1.er = 0) : t.2.2 < 200 := sorry
theorem pScan_go2 {b : Nat → Int32} {lim : Nat} {s : QS} (h : qOK lim s) (ht : ¬ s.1.tk = 0) : qGo lim s (pScan b lim s.1, s.2) ∧ qLt lim s (pScan b lim s.1, s.2) := sorry
theorem qVal_go {b : Nat → Int32} {lim : Nat} {s : QS} (hl : lim ≤ 200) (h : qOK lim s) : qGo lim s (qVal b lim s) ∧ qLt lim s (qVal b lim s) := sorry
theorem qVal_ns {b : Nat → Int32} {lim : Nat} {s : QS} : (qVal b lim s).1.ns = s.1.ns := sorry
theorem pNsU_ok {lim k : Nat} {p : PS} (h : PSok lim p) (hk : k ≤ 7) : PSok lim (pNsU p k) := sorry
theorem pNsU_go {lim k : Nat} {p : PS} : pGo lim p (pNsU p k) := sorry
theorem pEnt0_ns {p : PS} : (pEnt0 p).ns = p.ns := sorry
theorem pEnt0_ok {lim : Nat} {p : PS} (hl : lim ≤ 600) (h : PSok lim p) : PSok lim (pEnt0 p) := sorry
theorem pEnt_ok {b : Nat → Int32} {lim : Nat} {p : PS} (hl : lim ≤ 600) (h : PSok lim p) (hn : p.ns ≤ 6) : PSok lim (pEnt b lim p) := sorry
theorem pEnt_go {b : Nat → Int32} {lim : Nat} {p : PS} (hl : lim ≤ 600) (h : PSok lim p) (hn : p.ns ≤ 6) : pGo lim p (pEnt b lim p) := sorry
theorem pEnt_ns {b : Nat → Int32} {lim : Nat} {p : PS} : (pEnt b lim p).ns = p.ns + 1 := sorry
theorem pEnt_0 {b : Nat → Int32} {lim : Nat} {p : PS} (h : (pEnt b lim p).er = 0) : p.er = 0 ∧ p.ns < 6 ∧ pEnt0 p = p := sorry
theorem pEnt_lt {b : Nat → Int32} {lim : Nat} {p : PS} (h : PSok lim p) (hn : p.ns ≤ 6) (ht : ¬ p.tk = 0) : pLt lim p (pEnt b lim p) := sorry
theorem qDn_go {lim : Nat} {s t : QS} (g : qGo lim s t) (hn : t.1.ns ≤ 7) : qGo lim s (qDn t) := sorry
/-- what is shown of the compiling of a factor, a conjunction, a test at depth d -/
def qF (lim d : Nat) (F : QS → QS) : Prop := ∀ s, qOK lim s → s.1.ns + d = 6 → qGo lim s (F s) ∧ qLt lim s (F s) ∧ (F s).1.ns = s.1.ns
theorem qLop_go {b : Nat → Int32} {lim d : Nat} {F : QS → QS} {w : List Int32} {op : Int32} (hl : lim ≤ 200) (hF : qF lim d F) : ∀ (t : Nat) (s : QS), qOK lim s → s.1.ns + d = 6 → qGo lim s (qLop b lim F w op t s) ∧ (qLop b lim F w op t s).1.ns = s.1.ns := sorry
theorem qCon_go {b : Nat → Int32} {lim d : Nat} {F : QS → QS} (hl : lim ≤ 200) (hF : qF lim d F) : qF lim d (qCon b lim F) := sorry
theorem qTst_go {b : Nat → Int32} {lim d : Nat} {F : QS → QS} (hl : lim ≤ 200) (hF : qF lim d F) : qF lim d (qTst b lim F) := sorry
theorem qCmp_go {b : Nat → Int32} {lim : Nat} {s : QS} (hl : lim ≤ 200) (h : qOK lim s) : qGo lim s (qCmp b lim s) ∧ qLt lim s (qCmp b lim s) ∧ (qCmp b lim s).1.ns = s.1.ns := sorry
theorem qIn_go {lim : Nat} {F : QS → QS} {s : QS} (h : qOK lim s) (hF : s.1.er = 0 → qGo lim s (F s) ∧ (F s).1.ns = s.1.ns) : qGo lim s (qIn F s) ∧ (qIn F s).1.ns = s.1.ns := sorry
theorem qFacS_go {b : Nat → Int32} {lim d : Nat} {F T : QS → QS} (hl : lim ≤ 200) (hF : d ≠ 0 → qF lim (d - 1) F) (hT : d ≠ 0 → qF lim (d - 1) T) : qF lim d (qFacS b lim F T) := sorry
theorem qFac_go {b : Nat → Int32} {lim : Nat} (hl : lim ≤ 200) : ∀ d, qF lim d (qFac b lim d) := sorry
end
