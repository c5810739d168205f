/-! placeholder -/
theorem zz_ph : True := trivial
