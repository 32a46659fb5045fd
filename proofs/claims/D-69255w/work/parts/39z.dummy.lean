theorem zz_dummy : True := trivial
