/-! elimination, purely -/
/-- truncated division as the machine does it -/
def lDv (x y : Int64) : Int64 := x / y
