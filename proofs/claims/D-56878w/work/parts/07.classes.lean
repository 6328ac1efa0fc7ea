/-! the classes whose objects the worlds hold, by their places; the array classes -/
def wv_cl : List vw_C := [(RJ2, TJ2, 3), (RJ24, TJ24, 4), (RJ8, TJ8, 4), (RJ20, TJ20, 1), (RJ6, TJ6, 6), (RJ11, TJ11, 6), (RJ15, TJ15, 6), (RJ16, TJ16, 6), (RJ25, TJ25, 6), (RX1, TX1, 7), (RX2, TX2, 9), (RX3, TX3, 4), (RX6, TX6, 4), (RX7, TX7, 3), (RX9, TX9, 1), (RX10, TX10, 2), (RX11, TX11, 1), (RX12, TX12, 1), (RX13, TX13, 1), (RX15, TX15, 4), (RX16, TX16, 1), (RX17, TX17, 1), (RX18, TX18, 2), (RX19, TX19, 7), (RX21, TX21, 7), (RX22, TX22, 2), (RX23, TX23, 7), (RX24, TX24, 6), (RX25, TX25, 8), (RX4, TX4, 17), (RX26, TX26, 5), (RX5, TX5, 5), (RX8, TX8, 4), (RX20, TX20, 4), (RX27, TX27, 2), (RX28, TX28, 6), (RX29, TX29, 8), (RX30, TX30, 7), (RX31, TX31, 3)]
abbrev ciJ2 : Nat := 0
theorem ccJ2 : wv_cl[ciJ2]? = some (RJ2, TJ2, 3) := rfl
abbrev ciJ24 : Nat := 1
theorem ccJ24 : wv_cl[ciJ24]? = some (RJ24, TJ24, 4) := rfl
abbrev ciJ8 : Nat := 2
theorem ccJ8 : wv_cl[ciJ8]? = some (RJ8, TJ8, 4) := rfl
abbrev ciJ20 : Nat := 3
theorem ccJ20 : wv_cl[ciJ20]? = some (RJ20, TJ20, 1) := rfl
abbrev ciJ6 : Nat := 4
theorem ccJ6 : wv_cl[ciJ6]? = some (RJ6, TJ6, 6) := rfl
abbrev ciJ11 : Nat := 5
theorem ccJ11 : wv_cl[ciJ11]? = some (RJ11, TJ11, 6) := rfl
abbrev ciJ15 : Nat := 6
theorem ccJ15 : wv_cl[ciJ15]? = some (RJ15, TJ15, 6) := rfl
abbrev ciJ16 : Nat := 7
theorem ccJ16 : wv_cl[ciJ16]? = some (RJ16, TJ16, 6) := rfl
abbrev ciJ25 : Nat := 8
theorem ccJ25 : wv_cl[ciJ25]? = some (RJ25, TJ25, 6) := rfl
abbrev ciX1 : Nat := 9
theorem ccX1 : wv_cl[ciX1]? = some (RX1, TX1, 7) := rfl
abbrev ciX2 : Nat := 10
theorem ccX2 : wv_cl[ciX2]? = some (RX2, TX2, 9) := rfl
abbrev ciX3 : Nat := 11
theorem ccX3 : wv_cl[ciX3]? = some (RX3, TX3, 4) := rfl
abbrev ciX6 : Nat := 12
theorem ccX6 : wv_cl[ciX6]? = some (RX6, TX6, 4) := rfl
abbrev ciX7 : Nat := 13
theorem ccX7 : wv_cl[ciX7]? = some (RX7, TX7, 3) := rfl
abbrev ciX9 : Nat := 14
theorem ccX9 : wv_cl[ciX9]? = some (RX9, TX9, 1) := rfl
abbrev ciX10 : Nat := 15
theorem ccX10 : wv_cl[ciX10]? = some (RX10, TX10, 2) := rfl
abbrev ciX11 : Nat := 16
theorem ccX11 : wv_cl[ciX11]? = some (RX11, TX11, 1) := rfl
abbrev ciX12 : Nat := 17
theorem ccX12 : wv_cl[ciX12]? = some (RX12, TX12, 1) := rfl
abbrev ciX13 : Nat := 18
theorem ccX13 : wv_cl[ciX13]? = some (RX13, TX13, 1) := rfl
abbrev ciX15 : Nat := 19
theorem ccX15 : wv_cl[ciX15]? = some (RX15, TX15, 4) := rfl
abbrev ciX16 : Nat := 20
theorem ccX16 : wv_cl[ciX16]? = some (RX16, TX16, 1) := rfl
abbrev ciX17 : Nat := 21
theorem ccX17 : wv_cl[ciX17]? = some (RX17, TX17, 1) := rfl
abbrev ciX18 : Nat := 22
theorem ccX18 : wv_cl[ciX18]? = some (RX18, TX18, 2) := rfl
abbrev ciX19 : Nat := 23
theorem ccX19 : wv_cl[ciX19]? = some (RX19, TX19, 7) := rfl
abbrev ciX21 : Nat := 24
theorem ccX21 : wv_cl[ciX21]? = some (RX21, TX21, 7) := rfl
abbrev ciX22 : Nat := 25
theorem ccX22 : wv_cl[ciX22]? = some (RX22, TX22, 2) := rfl
abbrev ciX23 : Nat := 26
theorem ccX23 : wv_cl[ciX23]? = some (RX23, TX23, 7) := rfl
abbrev ciX24 : Nat := 27
theorem ccX24 : wv_cl[ciX24]? = some (RX24, TX24, 6) := rfl
abbrev ciX25 : Nat := 28
theorem ccX25 : wv_cl[ciX25]? = some (RX25, TX25, 8) := rfl
abbrev ciX4 : Nat := 29
theorem ccX4 : wv_cl[ciX4]? = some (RX4, TX4, 17) := rfl
abbrev ciX26 : Nat := 30
theorem ccX26 : wv_cl[ciX26]? = some (RX26, TX26, 5) := rfl
abbrev ciX5 : Nat := 31
theorem ccX5 : wv_cl[ciX5]? = some (RX5, TX5, 5) := rfl
abbrev ciX8 : Nat := 32
theorem ccX8 : wv_cl[ciX8]? = some (RX8, TX8, 4) := rfl
abbrev ciX20 : Nat := 33
theorem ccX20 : wv_cl[ciX20]? = some (RX20, TX20, 4) := rfl
abbrev ciX27 : Nat := 34
theorem ccX27 : wv_cl[ciX27]? = some (RX27, TX27, 2) := rfl
abbrev ciX28 : Nat := 35
theorem ccX28 : wv_cl[ciX28]? = some (RX28, TX28, 6) := rfl
abbrev ciX29 : Nat := 36
theorem ccX29 : wv_cl[ciX29]? = some (RX29, TX29, 8) := rfl
abbrev ciX30 : Nat := 37
theorem ccX30 : wv_cl[ciX30]? = some (RX30, TX30, 7) := rfl
abbrev ciX31 : Nat := 38
theorem ccX31 : wv_cl[ciX31]? = some (RX31, TX31, 3) := rfl
abbrev wv_tyL : List FieldType := [.int, .char, .boolean, .long, .double, .object "java/lang/Object", .object "Weaversgate$Advice", .object "WeaversgateModel$Body", .array .boolean, .byte]
