set_option maxRecDepth 100000
/-! THE START, 3: the first row -/
def rI0 : Nat → Int32 := wU (wU (wU (wU (wU (wU (wU (fun _ => 0) 3 (nI 5)) 11 (nI 2)) 4 (nI 1)) 12 (nI 7)) 4 (nI 2)) 13 (nI 4)) 4 (nI 3)
def tI0 : List Nat := [121, 111, 100, 101, 108]
def tI1 : List Nat := [109, 117, 109, 98, 108, 101]
def tI2 : List Nat := [98, 101, 108, 108]
def tI3 : List Nat := [104, 111, 114, 110]
def tI4 : List Nat := [103, 114, 101, 101, 110]
def tI5 : List Nat := [100, 101, 101, 112]
def tI6 : List Nat := [111, 108, 100]
def rI1 : Nat → Int32 := rEc rI0 0 tI0 3 6 9 5
def rI2 : Nat → Int32 := rEc rI1 1 tI1 8 2 4 1
def rI3 : Nat → Int32 := rEc rI2 2 tI2 5 9 14 8
def rI4 : Nat → Int32 := rEc rI3 3 tI3 4 5 6 3
def rI5 : Nat → Int32 := rVa rI4 0 tI4 4 1 10 60
def rI6 : Nat → Int32 := rVa rI5 1 tI5 8 2 8 5
def rI7 : Nat → Int32 := rVa rI6 2 tI6 2 1 15 30
def rI8 : Nat → Int32 := wU rI7 (iP 0 0 0) 1
def rI9 : Nat → Int32 := wU rI8 (iP 1 1 0) 1
def rIn : Nat → Int32 := wU rI9 (iP 2 3 0) 1
theorem pI_1 : pStm tInit rI0 17 = .ok (rI1, 36) := rfl
theorem pI_2 : pStm tInit rI1 36 = .ok (rI2, 56) := rfl
theorem pI_3 : pStm tInit rI2 56 = .ok (rI3, 75) := rfl
theorem pI_4 : pStm tInit rI3 75 = .ok (rI4, 93) := rfl
theorem pI_5 : pStm tInit rI4 93 = .ok (rI5, 116) := rfl
theorem pI_6 : pStm tInit rI5 116 = .ok (rI6, 136) := rfl
theorem pI_7 : pStm tInit rI6 136 = .ok (rI7, 157) := rfl
theorem pI_8 : pStm tInit rI7 157 = .ok (rI8, 176) := rfl
theorem pI_9 : pStm tInit rI8 176 = .ok (rI9, 195) := rfl
theorem pI_10 : pStm tInit rI9 195 = .ok (rIn, 211) := rfl
theorem pI_load : pLoad tInit = .ok rIn := rfl
