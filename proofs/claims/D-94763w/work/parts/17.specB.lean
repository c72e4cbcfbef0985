/-! JOY: what the letters of the rule answer, and the joy of a guest at a dish -/
def letV (V : VV) (g d : Nat) (c : Int32) : Int32 :=
  if c = 108 then nI (pc (vlo V g &&& vst V d)) else if c = 98 then nI (pc (vba V g &&& vst V d)) else if c = 110 then nI (pc (vst V d)) else if c = 99 then nI (vco V d) else
  if c = 104 then j01 (hotV V d) else if c = 111 then nI (vho V d) else if c = 103 then nI g else nI d
def joyV (V : VV) (g d : Nat) : Int32 := match vru V with
  | none => nI (pc (vlo V g &&& vst V d))
  | some D => jmax (-999) (jmin 999 (D (letV V g d)))
