/-! Plain functions: what is called from outside -/
set_option maxRecDepth 100000
def rEmpH (h : Nat → Nat) : Nat → Nat := va_up (va_up (va_up (va_up (va_up (rStarts h) 11 0) 0 0) 7 0) 8 0) 6 0
